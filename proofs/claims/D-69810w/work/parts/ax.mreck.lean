/-! the reference: operations on numbers -/
set_option maxRecDepth 100000
section MReck
variable {G : Gx} {d : Nat} {hB h h0 h' : AH} {M Z : Nat} {st alt s : List (List Int32)} {fl : Bool}
def rkL (op : Nat) (a b c : Int) : List Int32 := if op ≤ 146 then un1 op b else if op = 165 then tv (decide (a ≤ c ∧ c < b)) else bi2 op a b
def rkP (op : Nat) (a b c : Int) (s : List (List Int32)) : Option (List (List Int32)) := if op = 157 then (if a = b then some s else none) else some (s ++ [rkL op a b c])
set_option maxHeartbeats 2000000 in
theorem rk_92 {op : Nat} {a b c : Int} (hd : 5 ≤ d) (h1 : 139 ≤ op) (h2 : op ≤ 165) (h3 : nvB op = false) (ha : a.natAbs < 2 ^ 40) (hb : b.natAbs < 2 ^ 40) (hc : c.natAbs < 2 ^ 40) (I1 : QI h0 h M Z false s alt) (hs : s.length ≤ 999) :
    Aw G mX24_reckon (d + 1) 0 h0 (kV (fun h' => OkQ h0 h' M Z ((rkP op a b c s).map (fun x => (x, alt)))) nE) 92 [vR M, vI (nI op), vU, vJ (lZ b), vU, vJ (lZ a), vU, vJ (lZ c), vU] [] h := by
  have kM := I1.1.1.1.1
  have pn : ∀ {i : Int}, i.natAbs < 2 ^ 48 → rkP op a b c s = some (s ++ [encI i]) → Cw G mX24_pushNumber d 0 [vR M, vJ (lZ i)] h (kV (fun h' => OkQ h0 h' M Z ((rkP op a b c s).map (fun x => (x, alt)))) nE) := fun hi e => by
    rw [e]
    exact m_pn (by omega) hi I1 (fun _ h' J1 => OkQ.ok J1 rfl) (fun z => absurd z (by omega))
  have pt : ∀ {P : Prop} [Decidable P], P → rkP op a b c s = some (s ++ [tv (decide P)]) → Cw G mX24_pushTruth d 0 [vR M, vI 1] h (kV (fun h' => OkQ h0 h' M Z ((rkP op a b c s).map (fun x => (x, alt)))) nE) := fun hP e => by
    rw [decide_eq_true hP] at e
    rw [e]
    exact m_pt (b := true) (by omega) I1 (fun _ h' J1 => OkQ.ok J1 rfl) (fun z => absurd z (by omega))
  have pf : ∀ {P : Prop} [Decidable P], ¬ P → rkP op a b c s = some (s ++ [tv (decide P)]) → Cw G mX24_pushTruth d 0 [vR M, vI 0] h (kV (fun h' => OkQ h0 h' M Z ((rkP op a b c s).map (fun x => (x, alt)))) nE) := fun hP e => by
    rw [decide_eq_false hP] at e
    rw [e]
    exact m_pt (b := false) (by omega) I1 (fun _ h' J1 => OkQ.ok J1 rfl) (fun z => absurd z (by omega))
  have oc : ∀ {n : Nat}, n < 256 → nI op = nI n → op = n := fun hn q => (nI_eq (by omega) (by omega)).mp q
  have za : lZ a = 0 ↔ a = 0 := lZ_eq (b := 0) (by omega) (by decide)
  have zb : lZ b = 0 ↔ b = 0 := lZ_eq (b := 0) (by omega) (by decide)
  have l0 : (0 : Int64) ≤ lZ b ↔ 0 ≤ b := lZ_le (a := 0) (by decide) (by omega)
  have zab : lZ a = lZ b ↔ a = b := lZ_eq (by omega) (by omega)
  have lab : lZ a ≤ lZ b ↔ a ≤ b := lZ_le (by omega) (by omega)
  have lba : lZ b ≤ lZ a ↔ b ≤ a := lZ_le (by omega) (by omega)
  have tab : lZ a < lZ b ↔ a < b := lZ_lt (by omega) (by omega)
  have tba : lZ b < lZ a ↔ b < a := lZ_lt (by omega) (by omega)
  have tca : lZ c < lZ a ↔ c < a := lZ_lt (by omega) (by omega)
  have lbc : lZ b ≤ lZ c ↔ b ≤ c := lZ_le (by omega) (by omega)
  have e1 : lZ b + 1 = lZ (b + 1) := lZ_add b 1
  have e2 : lZ b - 1 = lZ (b - 1) := lZ_sub b 1
  refine sX24_reckon_92 h M (nI op) (lZ b) (lZ a) (lZ c) ?_
  rw [e1, e2, lZ_neg, lZ_add a b, lZ_sub a b, za, zb, l0, zab, lab, lba, tab, tba, tca, lbc]
  refine ⟨fun q => ?_, fun q => ?_, fun q => ?_, fun q => ?_, fun q => ?_, fun q => ?_, fun q => ?_, fun q => ?_, fun q => ?_, fun q => ?_, fun q => ?_, fun q => ?_, fun q => ?_, fun q => ?_, fun q => ?_, fun q => ?_, fun q => ?_, fun q => ?_, fun q => ?_, fun q => ?_⟩
  · -- 139
    obtain rfl : op = 139 := oc (n := 139) (by decide) q
    exact ⟨kM, pn (by omega) rfl⟩
  · -- 140
    obtain rfl : op = 140 := oc (n := 140) (by decide) q
    exact ⟨kM, pn (by omega) rfl⟩
  · -- 143
    obtain rfl : op = 143 := oc (n := 143) (by decide) q
    exact ⟨kM, pn (by omega) rfl⟩
  · -- 144
    obtain rfl : op = 144 := oc (n := 144) (by decide) q
    have eR : rkP 144 a b c s = some (s ++ [encI (b.natAbs : Int)]) := rfl
    exact ⟨fun q1 => ⟨kM, pn (by omega) (by rw [eR, show (b.natAbs : Int) = b by omega])⟩, fun q1 => ⟨kM, pn (by omega) (by rw [eR, show (b.natAbs : Int) = -b by omega])⟩⟩
  · -- 145
    obtain rfl : op = 145 := oc (n := 145) (by decide) q
    exact ⟨fun q1 => ⟨fun q => absurd rfl q, fun _ => ⟨fun _ => ⟨kM, pf (P := b = 0) q1 rfl⟩, fun q => absurd q (by decide)⟩⟩, fun q1 => ⟨fun q => absurd rfl q, fun _ => ⟨fun q => absurd rfl q, fun _ => ⟨kM, pt (P := b = 0) q1 rfl⟩⟩⟩⟩
  · -- 146
    obtain rfl : op = 146 := oc (n := 146) (by decide) q
    exact ⟨fun q1 => ⟨fun _ => ⟨fun q => absurd rfl q, fun _ => ⟨kM, pt (P := ¬ b = 0) q1 rfl⟩⟩, fun q => absurd q (by decide)⟩, fun q1 => ⟨fun _ => ⟨fun _ => ⟨kM, pf (P := ¬ b = 0) (fun z => z q1) rfl⟩, fun q => absurd q (by decide)⟩, fun q => absurd q (by decide)⟩⟩
  · -- 147
    obtain rfl : op = 147 := oc (n := 147) (by decide) q
    exact ⟨kM, pn (by omega) rfl⟩
  · -- 148
    obtain rfl : op = 148 := oc (n := 148) (by decide) q
    exact ⟨kM, pn (by omega) rfl⟩
  · -- 154
    obtain rfl : op = 154 := oc (n := 154) (by decide) q
    exact ⟨fun q1 => ⟨kM, pf (P := ¬ a = 0 ∧ ¬ b = 0) (fun z => z.1 q1) rfl⟩, fun q1 => ⟨fun q2 => ⟨kM, pf (P := ¬ a = 0 ∧ ¬ b = 0) (fun z => z.2 q2) rfl⟩, fun q2 => ⟨kM, pt (P := ¬ a = 0 ∧ ¬ b = 0) ⟨q1, q2⟩ rfl⟩⟩⟩
  · -- 155
    obtain rfl : op = 155 := oc (n := 155) (by decide) q
    exact ⟨fun q1 => ⟨kM, pt (P := ¬ a = 0 ∨ ¬ b = 0) (Or.inl q1) rfl⟩, fun q1 => ⟨fun q2 => ⟨kM, pf (P := ¬ a = 0 ∨ ¬ b = 0) (fun z => z.elim (fun y => y q1) (fun y => y q2)) rfl⟩, fun q2 => ⟨kM, pt (P := ¬ a = 0 ∨ ¬ b = 0) (Or.inr q2) rfl⟩⟩⟩
  · -- 156
    obtain rfl : op = 156 := oc (n := 156) (by decide) q
    have hs2 : s.length ≤ 1000 := by omega
    refine ⟨fun q1 => ⟨fun _ => ⟨kM, ?_⟩, fun q => absurd q (by decide)⟩, fun q1 => ⟨fun _ => ⟨kM, ?_⟩, fun q => absurd q (by decide)⟩⟩
    · have e : rkP 156 a b c s = some (s ++ [tv false]) := by rw [← decide_eq_false q1]; rfl
      rw [e]
      exact m_answer (b := false) (vf := false) hd I1 hs2 (fun _ h' J1 => OkQ.ok J1 rfl) (fun z => absurd z (by decide))
    · have e : rkP 156 a b c s = some (s ++ [tv true]) := by rw [← decide_eq_true q1]; rfl
      rw [e]
      exact m_answer (b := true) (vf := false) hd I1 hs2 (fun _ h' J1 => OkQ.ok J1 rfl) (fun z => absurd z (by decide))
  · -- 157
    obtain rfl : op = 157 := oc (n := 157) (by decide) q
    have hs2 : s.length ≤ 1000 := by omega
    refine ⟨fun q1 => ⟨fun q => absurd rfl q, fun _ => ⟨kM, ?_⟩⟩, fun q1 => ⟨fun q => absurd rfl q, fun _ => ⟨kM, ?_⟩⟩⟩
    · have e : rkP 157 a b c s = none := if_neg q1
      rw [e]
      exact m_answer (b := false) (vf := true) hd I1 hs2 (fun z => absurd z (by decide)) (fun _ h' J1 => OkQ.no J1 rfl)
    · have e : rkP 157 a b c s = some s := if_pos q1
      rw [e]
      exact m_answer (b := true) (vf := true) hd I1 hs2 (fun z => absurd z (by decide)) (fun _ h' J1 => OkQ.ok J1 rfl)
  · -- 158
    obtain rfl : op = 158 := oc (n := 158) (by decide) q
    exact ⟨fun q1 => ⟨kM, pf (P := ¬ a = b) (fun z => z q1) rfl⟩, fun q1 => ⟨kM, pt (P := ¬ a = b) q1 rfl⟩⟩
  · -- 159
    obtain rfl : op = 159 := oc (n := 159) (by decide) q
    exact ⟨fun q1 => ⟨kM, pf (P := a < b) (by omega) rfl⟩, fun q1 => ⟨kM, pt (P := a < b) (by omega) rfl⟩⟩
  · -- 160
    obtain rfl : op = 160 := oc (n := 160) (by decide) q
    exact ⟨fun q1 => ⟨kM, pf (P := b < a) (by omega) rfl⟩, fun q1 => ⟨kM, pt (P := b < a) (by omega) rfl⟩⟩
  · -- 161
    obtain rfl : op = 161 := oc (n := 161) (by decide) q
    exact ⟨fun q1 => ⟨kM, pf (P := a ≤ b) (by omega) rfl⟩, fun q1 => ⟨kM, pt (P := a ≤ b) (by omega) rfl⟩⟩
  · -- 162
    obtain rfl : op = 162 := oc (n := 162) (by decide) q
    exact ⟨fun q1 => ⟨kM, pf (P := b ≤ a) (by omega) rfl⟩, fun q1 => ⟨kM, pt (P := b ≤ a) (by omega) rfl⟩⟩
  · -- 163
    obtain rfl : op = 163 := oc (n := 163) (by decide) q
    have eR : rkP 163 a b c s = some (s ++ [encI (if b < a then b else a)]) := rfl
    exact ⟨fun q1 => ⟨kM, pn (by omega) (by rw [eR, show (if b < a then b else a) = b by split <;> omega])⟩, fun q1 => ⟨kM, pn (by omega) (by rw [eR, show (if b < a then b else a) = a by split <;> omega])⟩⟩
  · -- 164
    obtain rfl : op = 164 := oc (n := 164) (by decide) q
    have eR : rkP 164 a b c s = some (s ++ [encI (if a < b then b else a)]) := rfl
    exact ⟨fun q1 => ⟨kM, pn (by omega) (by rw [eR, show (if a < b then b else a) = b by split <;> omega])⟩, fun q1 => ⟨kM, pn (by omega) (by rw [eR, show (if a < b then b else a) = a by split <;> omega])⟩⟩
  · -- 165
    obtain rfl : op = 165 := by
      have z : ∀ n, op = n → nI op = nI n := fun n e => by rw [e]
      have nv : ¬ ((126 ≤ op ∧ op ≤ 129) ∨ (131 ≤ op ∧ op ≤ 134) ∨ op = 141 ∨ op = 142 ∨ (149 ≤ op ∧ op ≤ 153) ∨ op = 101 ∨ op = 102) := of_decide_eq_false h3
      obtain ⟨c139, c140, c143, c144, c145, c146, c147, c148, c154, c155, c156, c157, c158, c159, c160, c161, c162, c163, c164⟩ := q
      have d139 : op ≠ 139 := fun e => c139 (z _ e)
      have d140 : op ≠ 140 := fun e => c140 (z _ e)
      have d143 : op ≠ 143 := fun e => c143 (z _ e)
      have d144 : op ≠ 144 := fun e => c144 (z _ e)
      have d145 : op ≠ 145 := fun e => c145 (z _ e)
      have d146 : op ≠ 146 := fun e => c146 (z _ e)
      have d147 : op ≠ 147 := fun e => c147 (z _ e)
      have d148 : op ≠ 148 := fun e => c148 (z _ e)
      have d154 : op ≠ 154 := fun e => c154 (z _ e)
      have d155 : op ≠ 155 := fun e => c155 (z _ e)
      have d156 : op ≠ 156 := fun e => c156 (z _ e)
      have d157 : op ≠ 157 := fun e => c157 (z _ e)
      have d158 : op ≠ 158 := fun e => c158 (z _ e)
      have d159 : op ≠ 159 := fun e => c159 (z _ e)
      have d160 : op ≠ 160 := fun e => c160 (z _ e)
      have d161 : op ≠ 161 := fun e => c161 (z _ e)
      have d162 : op ≠ 162 := fun e => c162 (z _ e)
      have d163 : op ≠ 163 := fun e => c163 (z _ e)
      have d164 : op ≠ 164 := fun e => c164 (z _ e)
      clear pn pt pf oc z I1 kM c139 c140 c143 c144 c145 c146 c147 c148 c154 c155 c156 c157 c158 c159 c160 c161 c162 c163 c164
      omega
    exact ⟨fun q1 => ⟨kM, pf (P := a ≤ c ∧ c < b) (by omega) rfl⟩, fun q1 => ⟨fun q2 => ⟨kM, pf (P := a ≤ c ∧ c < b) (by omega) rfl⟩, fun q2 => ⟨kM, pt (P := a ≤ c ∧ c < b) (by omega) rfl⟩⟩⟩
theorem m_nm {i : Nat} (hd : 1 ≤ d) (I1 : QI hB h M Z fl st alt) (hi : i < st.length) : Cw G mX24_numberAt d 0 [vR M, vI (nI i), vI 4] h (kJ (fun x h' => ∃ b : Int, QI hB h' M Z (fl || decide (4 < (tp st i).length)) st alt ∧ x = lZ b ∧ b.natAbs < 2 ^ 40 ∧ ((tp st i).length ≤ 4 → b = numI (tp st i))) nE) := by
  refine m_num (m := 4) hd (by decide) I1 hi (fun c => ⟨numI (tp st i), ?_, rfl, ?_, fun _ => rfl⟩) (fun c h' J1 => ⟨0, ?_, rfl, by decide, fun z => absurd z (by omega)⟩)
  · rw [decide_eq_false (by omega), Bool.or_false]
    exact I1
  · have := numI_lt c
    rw [show (256 : Nat) ^ 4 = 2 ^ 32 by decide] at this
    omega
  · rw [decide_eq_true c, Bool.or_true]
    exact J1
theorem rk_74 {op k : Nat} {a b c : Int} (hd : 5 ≤ d) (h1 : 139 ≤ op) (h2 : op ≤ 165) (h3 : nvB op = false) (ha : a.natAbs < 2 ^ 40) (hb : b.natAbs < 2 ^ 40) (hc : c.natAbs < 2 ^ 40) (hk : 1 ≤ k) (hk2 : k ≤ st.length) (hs : st.length ≤ 1000) (I1 : QI h0 h M Z fl st alt) (bad : fl = true → numsP op st = none) (good : fl = false → numsP op st = rkP op a b c (dr st k)) :
    Aw G mX24_reckon (d + 1) 0 h0 (kV (fun h' => OkQ h0 h' M Z ((numsP op st).map (fun x => (x, alt)))) nE) 74 [vR M, vI (nI op), vI (nI k), vJ (lZ b), vU, vJ (lZ a), vU, vJ (lZ c), vU] [] h := by
  refine sX24_reckon_74 h M (nI op) (nI k) (lZ b) (lZ a) (lZ c) ⟨I1.1.1.1.1, ?_⟩
  rw [I1.2.1]
  cases fl with
  | false =>
    refine ⟨fun _ h3' e3 => ?_, fun q => absurd rfl q⟩
    rw [good rfl]
    exact rk_92 hd h1 h2 h3 ha hb hc (I1.dr1 hk2 e3) (by rw [dr_len]; omega)
  | true =>
    refine ⟨fun q => absurd q (by decide), fun _ => OkQ.no I1 ?_⟩
    rw [bad rfl]
    rfl
set_option maxHeartbeats 1000000 in
theorem MD_reckon_spec {op : Nat} (hd : 6 ≤ d) (h1 : 139 ≤ op) (h2 : op ≤ 165) (h3 : nvB op = false) (H : MOm h M Z st alt) (F0 : h.i 24074 M = 0) (hs : st.length ≤ 1000) :
    Cw G mX24_reckon d 0 [vR M, vI (nI op)] h (kV (fun h' => OkQ h h' M Z ((numsP op st).map (fun x => (x, alt)))) nE) := by
  obtain ⟨d, rfl⟩ : ∃ d', d = d' + 1 := ⟨d - 1, by omega⟩
  have I0 := QI.rf H F0
  have kM := H.1.1.1
  have hd1 : 1 ≤ d := by omega
  have hd5 : 5 ≤ d := by omega
  refine eX24_reckon h M (nI op) (fun _ => sX24_reckon_0 h M (nI op) (pk_eq' op 165 (fun c165 => pk_lt op 147 (fun c => ?_) (fun c => ?_)) (fun c165 => ?_)))
  · have none1 : st.length < 1 ∨ 4 < (tp st 0).length → numsP op st = none := fun q => by
      unfold numsP
      rw [if_pos (by omega), if_pos q]
    refine sX24_reckon_24 h M (nI op) 1 ⟨kM, m_need (n := 1) hd1 (by decide) I0 (fun g1 => ⟨fun _ => (m_nm (i := 0) hd1 I0 (by omega)).nJ (fun x5 h6 Q => ⟨fun _ => ?_, fun q => absurd (by decide) q⟩), fun q => absurd q (by decide)⟩) (fun g1 h2 J1 => ⟨fun q => absurd rfl q, fun _ => OkQ.no J1 (by rw [none1 (Or.inl g1)]; rfl)⟩)⟩
    obtain ⟨b, J6, e5, hb, eb⟩ := Q
    rw [e5]
    refine sX24_reckon_57 h6 M (nI op) 1 (lZ b) 0 ⟨fun _ => rk_74 (k := 1) (a := 0) (b := b) (c := 0) hd5 h1 h2 h3 (by decide) hb (by decide) (by decide) g1 hs J6 (fun z => ?_) (fun z => ?_), fun q => absurd (by decide) q⟩
    · rw [Bool.false_or] at z
      exact none1 (Or.inr (of_decide_eq_true z))
    · rw [Bool.false_or] at z
      have z := of_decide_eq_false z
      have eb := eb (by omega)
      have eL : rkL op 0 b 0 = un1 op b := by
        unfold rkL
        rw [if_pos (by omega)]
      unfold numsP rkP
      rw [if_pos (show op ≤ 146 by omega), if_neg (by omega), if_neg (show ¬ op = 157 by omega), eL, eb]
  · have none2 : st.length < 2 ∨ 4 < (tp st 1).length ∨ 4 < (tp st 0).length → numsP op st = none := fun q => by
      unfold numsP
      rw [if_neg (by omega), if_neg c165, if_pos q]
    refine sX24_reckon_24 h M (nI op) 2 ⟨kM, m_need (n := 2) hd1 (by decide) I0 (fun g1 => ⟨fun _ => (m_nm (i := 0) hd1 I0 (by omega)).nJ (fun x5 h6 Q => ⟨fun q => absurd q (by decide), fun _ => ?_⟩), fun q => absurd q (by decide)⟩) (fun g1 h2 J1 => ⟨fun q => absurd rfl q, fun _ => OkQ.no J1 (by rw [none2 (Or.inl g1)]; rfl)⟩)⟩
    obtain ⟨b, J6, e5, hb, eb⟩ := Q
    refine (m_nm (i := 1) hd1 J6 (by omega)).nJ (fun x9 h10 Q => ?_)
    obtain ⟨a, J10, e9, ha, ea⟩ := Q
    rw [e5, e9]
    refine sX24_reckon_57 h10 M (nI op) 2 (lZ b) (lZ a) ⟨fun _ => rk_74 (k := 2) (a := a) (b := b) (c := 0) hd5 h1 h2 h3 ha hb (by decide) (by decide) g1 hs J10 (fun z => ?_) (fun z => ?_), fun q => absurd (by decide) q⟩
    · rw [Bool.false_or, Bool.or_eq_true, decide_eq_true_eq, decide_eq_true_eq] at z
      exact none2 (by omega)
    · rw [Bool.false_or, Bool.or_eq_false_iff, decide_eq_false_iff_not, decide_eq_false_iff_not] at z
      have eb := eb (by omega)
      have ea := ea (by omega)
      have eL : rkL op a b 0 = bi2 op a b := by
        unfold rkL
        rw [if_neg (by omega), if_neg c165]
      unfold numsP rkP
      rw [if_neg (show ¬ op ≤ 146 by omega), if_neg c165, if_neg (by omega), eL, eb, ea]
  · have none3 : st.length < 3 ∨ 4 < (tp st 2).length ∨ 4 < (tp st 1).length ∨ 4 < (tp st 0).length → numsP op st = none := fun q => by
      unfold numsP
      rw [if_neg (by omega), if_pos c165, if_pos q]
    refine sX24_reckon_24 h M (nI op) 3 ⟨kM, m_need (n := 3) hd1 (by decide) I0 (fun g1 => ⟨fun _ => (m_nm (i := 0) hd1 I0 (by omega)).nJ (fun x5 h6 Q => ⟨fun q => absurd q (by decide), fun _ => ?_⟩), fun q => absurd q (by decide)⟩) (fun g1 h2 J1 => ⟨fun q => absurd rfl q, fun _ => OkQ.no J1 (by rw [none3 (Or.inl g1)]; rfl)⟩)⟩
    obtain ⟨b, J6, e5, hb, eb⟩ := Q
    refine (m_nm (i := 1) hd1 J6 (by omega)).nJ (fun x9 h10 Q => ?_)
    obtain ⟨a, J10, e9, ha, ea⟩ := Q
    rw [e5, e9]
    refine sX24_reckon_57 h10 M (nI op) 3 (lZ b) (lZ a) ⟨fun q => absurd q (by decide), fun _ => ⟨J10.1.1.1.1, (m_nm (i := 2) hd1 J10 (by omega)).nJ (fun x2 h3' Q => ?_)⟩⟩
    obtain ⟨c, J3, e2, hc, ec⟩ := Q
    rw [e2]
    refine rk_74 (k := 3) (a := a) (b := b) (c := c) hd5 h1 h2 h3 ha hb hc (by decide) g1 hs J3 (fun z => ?_) (fun z => ?_)
    · rw [Bool.false_or, Bool.or_eq_true, Bool.or_eq_true, decide_eq_true_eq, decide_eq_true_eq, decide_eq_true_eq] at z
      exact none3 (by omega)
    · rw [Bool.false_or, Bool.or_eq_false_iff, Bool.or_eq_false_iff, decide_eq_false_iff_not, decide_eq_false_iff_not, decide_eq_false_iff_not] at z
      have eb := eb (by omega)
      have ea := ea (by omega)
      have ec := ec (by omega)
      have eL : rkL op a b c = tv (decide (a ≤ c ∧ c < b)) := by
        unfold rkL
        rw [if_neg (by omega), if_pos c165]
      unfold numsP rkP
      rw [if_neg (show ¬ op ≤ 146 by omega), if_pos c165, if_neg (by omega), if_neg (show ¬ op = 157 by omega), eL, eb, ea, ec]
end MReck
