/-! a run reads its script alone -/
set_option maxRecDepth 100000
section RunCg
variable {p N : Nat} {Bp : Pt} {K B L : List Int32} {t : TxP} {inp : Nat} {S S' : List Int32} {b e i : Nat} {st : List (List Int32)} {s : RSt}
theorem subT_cg (h : eqN e S S') (b : Nat) : sub_ S b (e - b) = sub_ S' b (e - b) := by
  by_cases c : b ≤ e
  · exact sub_cg h (by omega)
  · rw [show e - b = 0 by omega]
    rfl
theorem opSz_cg (h : eqN e S S') (hi : i < e) (h0 : opLen S' i e ≠ 0) : opSz S i = opSz S' i := by
  have ol := opLen_le (L := S') (i := i) (e := e)
  have oe := opLen_eq h0
  unfold opSz
  rw [h.ub hi]
  have hp := opHd_pos (ub S' i)
  rw [leV_cg h (by omega)]
theorem actP_cg (h : eqN e S S') (hi : i < e) (h0 : opLen S' i e ≠ 0) : actP p N Bp K B L t inp S e i s = actP p N Bp K B L t inp S' e i s := by
  have ol := opLen_le (L := S') (i := i) (e := e)
  have oe := opLen_eq h0
  have e1 : ub S i = ub S' i := h.ub hi
  have e2 : opSz S i = opSz S' i := opSz_cg h hi h0
  have e3 : sub_ S (i + opHd (ub S' i)) (opSz S' i) = sub_ S' (i + opHd (ub S' i)) (opSz S' i) := sub_cg h (by omega)
  have e4 : ∀ op, sinP p N Bp K B L t inp S s.1 e op s.2.2.1 = sinP p N Bp K B L t inp S' s.1 e op s.2.2.1 := fun op => by
    unfold sinP
    rw [subT_cg h]
  have e5 : ∀ op, sevP p N Bp K B L t inp S s.1 e op s.2.1 s.2.2.1 = sevP p N Bp K B L t inp S' s.1 e op s.2.1 s.2.2.1 := fun op => by
    unfold sevP
    rw [subT_cg h]
  unfold actP
  rw [e1, e2, e3, e4, e5]
theorem oneP_cg (h : eqN e S S') (hi : i < e) : oneP p N Bp K B L t inp S e i s = oneP p N Bp K B L t inp S' e i s := by
  unfold oneP
  rw [opLen_cg h hi]
  by_cases c : opLen S' i e = 0
  · rw [if_pos c, if_pos c]
  · rw [if_neg c, if_neg c, h.ub hi, opSz_cg h hi c, actP_cg h hi c]
theorem runF_cg (h : eqN e S S') : ∀ k i s, runF p N Bp K B L t inp S e k i s = runF p N Bp K B L t inp S' e k i s
  | 0, _, _ => rfl
  | k + 1, i, s => by
    unfold runF
    by_cases c : e ≤ i
    · rw [if_pos c, if_pos c]
    · rw [if_neg c, if_neg c, oneP_cg h (by omega), opLen_cg h (by omega)]
      cases oneP p N Bp K B L t inp S' e i s with
      | none => rfl
      | some r => exact runF_cg h k _ r
theorem runP_cg (h : eqN e S S') : runP p N Bp K B L t inp S b e st = runP p N Bp K B L t inp S' b e st := runF_cg h _ _ _
end RunCg
/-- the form of an output that holds a digest of a script -/
def nestB (O : List Int32) (oo osz : Nat) : Bool := decide (osz = 23 ∧ ub O oo = 169 ∧ ub O (oo + 1) = 20 ∧ ub O (oo + 22) = 135)
/-- a stack whose top is true -/
def topT (st : List (List Int32)) : Bool := decide (0 < st.length) && isT (tp st 0)
/-- whether an input may take an output -/
def unP (p N : Nat) (Bp : Pt) (K B L : List Int32) (t : TxP) (inp : Nat) (I : List Int32) (io isz : Nat) (O : List Int32) (oo osz : Nat) : Bool :=
  match runP p N Bp K B L t inp I io (io + isz) [] with
  | none => false
  | some st1 => match runP p N Bp K B L t inp O oo (oo + osz) st1 with
    | none => false
    | some st2 => if topT st2 = false then false else if nestB O oo osz = false then true else if (pushesF I (io + isz) isz io && decide (0 < st1.length)) = false then false else
      match runP p N Bp K B L t inp (tp st1 0) 0 (tp st1 0).length (dr st1 1) with
      | none => false
      | some st3 => topT st3
