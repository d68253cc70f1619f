/-! the component's stack machine: its small steps, one behind another -/
set_option maxRecDepth 100000
theorem lZ_neg (a : Int) : -(lZ a) = lZ (-a) := by
  unfold lZ
  rw [Int64.ofInt_neg]
/-- the number that bytes tell -/
def numI (l : List Int32) : Int := if 0 < l.length ∧ l.getD (l.length - 1) 0 < 0 then -(mg l : Int) else (mg l : Int)
theorem numP_I (l : List Int32) : numP l = lZ (numI l) := by
  unfold numP numI
  split
  · rw [lZ_n, lZ_neg]
  · rw [lZ_n]
theorem mg_lt (l : List Int32) : mg l < 256 ^ l.length := dv8_lt (fun i _ => by
  have := ub_lt l i
  split <;> omega)
theorem numI_lt {l : List Int32} {n : Nat} (h : l.length ≤ n) : (numI l).natAbs < 256 ^ n := by
  have h1 := mg_lt l
  have h2 : 256 ^ l.length ≤ 256 ^ n := Nat.pow_le_pow_right (by omega) h
  unfold numI
  split <;> omega
/-- the bytes of a number -/
def encI (i : Int) : List Int32 := beL i.natAbs (decide (i < 0))
theorem lZ_abs (i : Int) : lZ i = if decide (i < 0) = true then -(lN i.natAbs) else lN i.natAbs := by
  by_cases c : i < 0
  · rw [if_pos (by simpa using c), lZ_n, lZ_neg]
    congr 1
    omega
  · rw [if_neg (by simpa using c), lZ_n]
    congr 1
    omega
def tv (b : Bool) : List Int32 := if b then [1] else []
/-- the element k below the top -/
def tp (st : List (List Int32)) (k : Nat) : List Int32 := st.getD (st.length - 1 - k) []
/-- without the n upmost -/
def dr (st : List (List Int32)) (n : Nat) : List (List Int32) := st.take (st.length - n)
theorem dr_len (st : List (List Int32)) (n : Nat) : (dr st n).length = st.length - n := by
  unfold dr
  rw [List.length_take]
  omega
/-- the machine since hB -/
def MI (hB h : AH) (Mc D b0 : Nat) (st alt : List (List Int32)) : Prop := MOk h Mc D b0 st alt ∧ MFr hB h Mc ∧ Kp [7004, 7005] Mc hB h
theorem MI.rf {h : AH} {Mc D b0 : Nat} {st alt : List (List Int32)} (H : MOk h Mc D b0 st alt) : MI h h Mc D b0 st alt := ⟨H, MFr.rf, Kp.rf⟩
section Mach3
variable {G : Gx} {d : Nat} {hB h : AH} {Mc D b0 : Nat} {st alt : List (List Int32)}
theorem k_need {x : Int32} {K : AH → Prop} {E : Nat → AH → Prop} (hd : 10 ≤ d) (I : MI hB h Mc D b0 st alt) (hK : ¬ x = 0 → K h) (hE : x = 0 → ∀ y h', ThrM hB h' Mc D b0 y → E y h') : Cw G mX7_need d 0 [vR Mc, vI x] h (kV K E) :=
  (Mc_need_spec (by omega) I.1.1 I.1.2.1).toV (fun h' _ _ Q => by rw [Q.2]; exact hK Q.1) (fun y h' _ _ Q => hE Q.1 y h' (Q.2.aft I.2.1))
theorem k_top {k : Nat} {K : Nat → AH → Prop} {E : Nat → AH → Prop} (hd : 10 ≤ d) (hk : k < 2000) (I : MI hB h Mc D b0 st alt) (hK : k < st.length → ∀ x, x = elA h Mc (st.length - 1 - k) → ElAt h x (tp st k) → K x h) (hE : st.length ≤ k → ∀ y h', ThrM hB h' Mc D b0 y → E y h') : Cw G mX7_top d 0 [vR Mc, vI (nI k)] h (kR K E) :=
  (Mc_top_spec (by omega) (by omega) I.1).toR (fun x h' _ _ Q => by
    obtain ⟨c, e, rfl⟩ := Q
    refine hK c x e ?_
    have := (I.1.2.2.2.2.2.1 (st.length - 1 - k) (by omega)).2
    rw [Nat.zero_add, ← e] at this
    exact this) (fun y h' _ _ Q => hE Q.1 y h' (Q.2.aft I.2.1))
theorem k_num {x m : Nat} {l : List Int32} {K : Int64 → AH → Prop} {E : Nat → AH → Prop} (hd : 10 ≤ d) (hm : m ≤ 7) (I : MI hB h Mc D b0 st alt) (hx : ElAt h x l) (hK : l.length ≤ m → K (lZ (numI l)) h) (hE : m < l.length → ∀ y h', ThrM hB h' Mc D b0 y → E y h') : Cw G mX22_number d 0 [vR x, vI (nI m)] h (kJ K E) := by
  intro wf
  refine (El_number_spec hm (by omega) hx).toJ (fun y h' _ _ Q => ?_) (fun y h' _ _ Q => ?_) wf
  · obtain ⟨c, rfl, rfl⟩ := Q
    rw [numP_I]
    exact hK c
  · refine hE Q.1 y h' ?_
    have T := Q.2
    have S := T.2.1
    have H1 := I.1.1
    have hMz : Mc + 8 < h.z := by have := I.1.2.2.1; have := I.1.2.2.2.1; omega
    have ea : ∀ v, v < 3 → h'.ar (Mc + 1 + v) = h.ar (Mc + 1 + v) := fun v hv => S.ar (by omega) id
    have hn : nul h' Mc = nul h Mc := nul_eq ea
    refine ThrM.aft I.2.1 ⟨T.1, H1.same S hMz (fun k => S.r (by omega) id k), fun j hj hj0 => ?_, S.mono (fun _ _ q => q.elim), by have := T.2.2.1; omega, by have := T.2.2.2; omega⟩
    rw [elA_eq ea hj] at hj0 ⊢
    obtain ⟨t1, t2, t3⟩ := I.1.2.1 j hj hj0
    obtain ⟨tz, tz1⟩ := I.1.2.1.lt wf hj hj0
    exact ⟨t1, t2.eq (S.2.2 _ tz id) (S.2.1.2 _ tz1), fun i hi e => t3 i hi (by rw [← elA_eq ea hi]; exact e)⟩
theorem k_isT {x : Nat} {l : List Int32} {K : Int32 → AH → Prop} {E : Nat → AH → Prop} (hd : 10 ≤ d) (hx : ElAt h x l) (hK : K (if isT l then 1 else 0) h) : Cw G mX22_isTrue d 0 [vR x] h (kI K E) :=
  (El_isTrue_spec (by omega) hx).nI (fun y h' Q => by obtain ⟨rfl, rfl⟩ := Q; exact hK)
theorem k_drop {k : Nat} {K : AH → Prop} {E : Nat → AH → Prop} (hd : 10 ≤ d) (hk : k < 2000) (I : MI hB h Mc D b0 st alt) (hK : k ≤ st.length → ∀ h', MI hB h' Mc D b0 (dr st k) alt → K h') (hE : st.length < k → ∀ y h', ThrM hB h' Mc D b0 y → E y h') : Cw G mX7_drop d 0 [vR Mc, vI (nI k)] h (kV K E) :=
  (Mc_drop_spec (by omega) (by omega) I.1).toV (fun h' _ _ Q => hK Q.1 h' ⟨Q.2.2, by rw [Q.2.1]; exact I.2.1.trans (MFr.pi _ _), by rw [Q.2.1]; exact I.2.2.pi _ _ (Or.inl (by decide))⟩) (fun y h' _ _ Q => hE Q.1 y h' (Q.2.aft I.2.1))
theorem k_truth {v : Int32} {K : AH → Prop} {E : Nat → AH → Prop} (hd : 10 ≤ d) (hs : st.length + alt.length < 1003) (I : MI hB h Mc D b0 st alt) (hK : ∀ h', MI hB h' Mc D b0 (st ++ [if v = 0 then [] else [1]]) alt → K h') : Cw G mX7_truth d 0 [vR Mc, vI v] h (kV K E) :=
  (Mc_truth_spec (by omega) I.1 rfl).toV (fun h' _ _ Q => hK h' ⟨Q.2.1, I.2.1.trans Q.2.2.1, I.2.2.trans Q.2.2.2 (fun k hk => by simp at hk; simp [hk])⟩) (fun y h' _ _ Q => absurd Q.1 (by omega))
/-- push, then a number -/
theorem k_push {K : Nat → AH → Prop} {E : Nat → AH → Prop} (hd : 10 ≤ d) (hs : st.length + alt.length < 1003) (I : MI hB h Mc D b0 st alt) (hK : ∀ x h', PuOk h h' Mc D b0 x st alt → WF G h' → ElS h' x → K x h') : Cw G mX7_push d 0 [vR Mc] h (kR K E) :=
  (Mc_push_spec (by omega) I.1).toR (fun x h' _ w Q => by
    refine hK x h' Q.2 w ?_
    have P := Q.2
    rw [P.2.1]
    exact (P.2.2.2.2.1 st.length (by have := P.2.2.1; omega) (by rw [← P.2.1]; exact P.1)).2.1) (fun y h' _ _ Q => absurd Q.1 (by omega))
theorem MI.fin {x : Nat} {h' h2 : AH} {l : List Int32} (I : MI hB h Mc D b0 st alt) (P : PuOk h h' Mc D b0 x st alt) (wf : WF G h') (S : Same (fun y => y = x ∨ y = x + 1) h' h2) (hz : h2.z = h'.z) (hs : h2.s = h'.s) (E : ElAt h2 x l) : MI hB h2 Mc D b0 (st ++ [l]) alt := by
  have := P.fin wf S hz hs E
  exact ⟨this.1, I.2.1.trans this.2.1, I.2.2.trans this.2.2 (fun k hk => by simp at hk; simp [hk])⟩
theorem k_be {x : Nat} {h' : AH} {i : Int} {K : AH → Prop} {E : Nat → AH → Prop} (hd : 10 ≤ d) (hi : i.natAbs < 2 ^ 48) (I : MI hB h Mc D b0 st alt) (P : PuOk h h' Mc D b0 x st alt) (wf : WF G h') (es : ElS h' x) (hK : ∀ h2, MI hB h2 Mc D b0 (st ++ [encI i]) alt → K h2) : Cw G mX22_be d 0 [vR x, vJ (lZ i)] h' (kV K E) :=
  (El_be_spec (lZ_abs i) hi (by omega) es).nV (fun h2 Q => by
    obtain ⟨Ee, T, k, rfl, lT⟩ := Q
    exact hK _ (I.fin P wf (Same.el (by rw [lT, es.2.2.2])) rfl rfl Ee))
theorem k_pbe {i : Int} {K : AH → Prop} {E E' : Nat → AH → Prop} (hd : 10 ≤ d) (hi : i.natAbs < 2 ^ 48) (hs : st.length + alt.length < 1003) (I : MI hB h Mc D b0 st alt) (hK : ∀ h2, MI hB h2 Mc D b0 (st ++ [encI i]) alt → K h2) : Cw G mX7_push d 0 [vR Mc] h (kR (fun x h1 => h1.kd x = 22 ∧ Cw G mX22_be d 0 [vR x, vJ (lZ i)] h1 (kV K E)) E') :=
  k_push hd hs I (fun x h' P w es => ⟨es.1, k_be hd hi I P w es hK⟩)
/-- push, then bytes of a row -/
theorem k_set {x a off n : Nat} {h' : AH} {L : List Int32} {K : Nat → AH → Prop} {E : Nat → AH → Prop} (hd : 10 ≤ d) (I : MI hB h Mc D b0 st alt) (P : PuOk h h' Mc D b0 x st alt) (wf : WF G h') (es : ElS h' x) (ka : h'.kd a = 101) (hL : h'.ai a = L) (hl : off + n ≤ L.length) (hl2 : L.length < 2 ^ 31) (hn : n ≤ 520) (hae : a ≠ x + 1) (hK : ∀ h2, MI hB h2 Mc D b0 (st ++ [sub_ L off n]) alt → K x h2) : Cw G mX22_set d 0 [vR x, vR a, vI (nI off), vI (nI n)] h' (kR K E) :=
  (El_set_spec (by omega) es ka (by rw [hL]; exact hl) (by rw [hL]; exact hl2) hn hae).nR (fun y h2 Q => by
    obtain ⟨rfl, rfl⟩ := Q
    refine hK _ (I.fin P wf (Same.el (by rw [putB_len])) rfl rfl (ElAt.set es hn (fun i hi => ?_) (sub_len _ _ _)))
    rw [sub_getD hi, hL])
theorem Mc_copy_spec {k : Nat} (hd : 11 ≤ d) (hk : k < 2000) (hs : st.length + alt.length < 1003) (H : MOk h Mc D b0 st alt) : Cw G mX7_copy d 0 [vR Mc, vI (nI k)] h (kV (fun h' => k < st.length ∧ MI h h' Mc D b0 (st ++ [tp st k]) alt) (fun y h' => st.length ≤ k ∧ ThrM h h' Mc D b0 y)) := by
  obtain ⟨d, rfl⟩ : ∃ d', d = d' + 1 := ⟨d - 1, by omega⟩
  refine eX7_copy h Mc (nI k) (fun wf => sX7_copy_0 h Mc (nI k) ⟨H.1.1, k_top (by omega) hk (MI.rf H) (fun c x hx ex => k_push (by omega) hs (MI.rf H) (fun x4 h5 P w es => ?_)) (fun c y h' T => ⟨c, T⟩)⟩)
  have hx0 : elA h Mc (st.length - 1 - k) ≠ 0 := by
    have := (H.2.2.2.2.2.1 (st.length - 1 - k) (by omega)).1
    rw [Nat.zero_add] at this
    exact this
  obtain ⟨tz, tz1⟩ := H.2.1.lt wf (show st.length - 1 - k < 3012 by have := H.2.2.2.2.1.2.2.1; omega) hx0
  have hb := (H.2.1 _ (show st.length - 1 - k < 3012 by have := H.2.2.2.2.1.2.2.1; omega) hx0).1
  have hb2 := H.2.2.2.1
  rw [← hx] at tz tz1 hb
  have q0 := P.2.2.2.2.2.2.2.2.2.2.2 x tz (fun v hv e => by omega)
  have q1 := P.2.2.2.2.2.2.2.2.2.2.2 (x + 1) tz1 (fun v hv e => by omega)
  have ex5 : ElAt h5 x (tp st k) := ex.eq q0 q1
  refine ⟨ex5.1.1, fun r8 e8 => ⟨es.1, ?_⟩⟩
  have e8' : r8 = x + 1 := e8.trans ex5.1.2.1
  subst e8'
  rw [ex5.2.1]
  have h4 : elA h5 Mc (st.length - 1 - k) = x := by
    rw [P.2.2.2.2.2.2.2.2.2.2.1 _ (by have := H.2.2.2.2.1.2.2.1; omega) hx0, hx]
  have hne : x ≠ x4 := fun e => by
    have hx4 : elA h5 Mc st.length ≠ 0 := by rw [← P.2.1]; exact P.1
    have := (P.2.2.2.2.1 st.length (by have := P.2.2.1; omega) hx4).2.2 (st.length - 1 - k) (by have := P.2.2.1; omega) (by rw [h4, ← P.2.1]; exact e)
    omega
  refine k_set (off := 0) (by omega) (MI.rf H) P w es ex5.1.2.2.1 rfl (by rw [ex5.1.2.2.2, Nat.zero_add]; exact ex5.2.2.1) (by rw [ex5.1.2.2.2]; decide) ex5.2.2.1 (by omega) (fun h2 I2 => ⟨c, ?_⟩)
  have esub : sub_ (h5.ai (x + 1)) 0 (tp st k).length = tp st k := by
    refine ext_getD (z := 0) (sub_len _ _ _) (fun i hi => ?_)
    rw [sub_len] at hi
    rw [sub_getD hi, Nat.zero_add]
    exact ex5.2.2.2 i hi
  rw [esub] at I2
  exact I2
theorem k_copy {k : Nat} {K : AH → Prop} {E : Nat → AH → Prop} (hd : 11 ≤ d) (hk : k < 2000) (hs : st.length + alt.length < 1003) (I : MI hB h Mc D b0 st alt) (hK : k < st.length → ∀ h', MI hB h' Mc D b0 (st ++ [tp st k]) alt → K h') (hE : st.length ≤ k → ∀ y h', ThrM hB h' Mc D b0 y → E y h') : Cw G mX7_copy d 0 [vR Mc, vI (nI k)] h (kV K E) :=
  (Mc_copy_spec hd hk hs I.1).toV (fun h' _ _ Q => hK Q.1 h' ⟨Q.2.1, I.2.1.trans Q.2.2.1, I.2.2.trans Q.2.2.2 (fun _ q => q)⟩) (fun y h' _ _ Q => hE Q.1 y h' (Q.2.aft I.2.1))
theorem Mc_verify_spec (hd : 11 ≤ d) (H : MOk h Mc D b0 st alt) : Cw G mX7_verify d 0 [vR Mc] h (kV (fun h' => 0 < st.length ∧ isT (tp st 0) = true ∧ MI h h' Mc D b0 (dr st 1) alt) (fun y h' => (st.length = 0 ∨ isT (tp st 0) = false) ∧ ThrM h h' Mc D b0 y)) := by
  obtain ⟨d, rfl⟩ : ∃ d', d = d' + 1 := ⟨d - 1, by omega⟩
  refine eX7_verify h Mc (fun wf => sX7_verify_0 h Mc ⟨H.1.1, k_top (k := 0) (by omega) (by decide) (MI.rf H) (fun c x hx ex => ⟨ex.1.1, k_isT (by omega) ex (k_need (by omega) (MI.rf H) (fun c2 => k_drop (k := 1) (by omega) (by decide) (MI.rf H) (fun c3 h' I => ⟨c, ?_, I⟩) (fun c3 => absurd c (by omega))) (fun c2 y h' T => ⟨Or.inr ?_, T⟩))⟩) (fun c y h' T => ⟨Or.inl (by omega), T⟩)⟩)
  · cases hT : isT (tp st 0)
    · rw [hT] at c2; exact absurd rfl c2
    · rfl
  · cases hT : isT (tp st 0)
    · rfl
    · rw [hT] at c2; exact absurd c2 (by decide)
theorem k_verify {K : AH → Prop} {E : Nat → AH → Prop} (hd : 11 ≤ d) (I : MI hB h Mc D b0 st alt) (hK : 0 < st.length → isT (tp st 0) = true → ∀ h', MI hB h' Mc D b0 (dr st 1) alt → K h') (hE : (st.length = 0 ∨ isT (tp st 0) = false) → ∀ y h', ThrM hB h' Mc D b0 y → E y h') : Cw G mX7_verify d 0 [vR Mc] h (kV K E) :=
  (Mc_verify_spec hd I.1).toV (fun h' _ _ Q => hK Q.1 Q.2.1 h' ⟨Q.2.2.1, I.2.1.trans Q.2.2.2.1, I.2.2.trans Q.2.2.2.2 (fun _ q => q)⟩) (fun y h' _ _ Q => hE Q.1 y h' (Q.2.aft I.2.1))
end Mach3
