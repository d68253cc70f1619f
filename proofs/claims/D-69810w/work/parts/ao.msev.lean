/-! the reference: several signatures -/
set_option maxRecDepth 100000
section MSev
variable {G : Gx} {d : Nat} {hB h h' h0 : AH} {M Z F O p N I J pp a n j inp : Nat} {K B L : List Int32} {t : TxP} {Bp : Pt} {st alt : List (List Int32)} {fl : Bool} {S : List Int32} {op k m : Nat} {Q : AH → Prop} {R : Option (List (List Int32))}
/-- what the loops of several stand on -/
def SvI (hB h : AH) (M Z F O p N I J pp a n j inp : Nat) (K B L : List Int32) (t : TxP) (Bp : Pt) (st alt : List (List Int32)) : Prop := GoF hB h M Z F O ∧ MEnv h M Z F O p N I J pp a n j inp K B L t Bp ∧ MOm h M Z st alt
theorem SvI.qi (X : SvI hB h M Z F O p N I J pp a n j inp K B L t Bp st alt) (F0 : hB.i 24074 M = 0) : QI h h M Z false st alt := ⟨X.2.2, X.1.i74.trans F0, SkF.rf, Kp.rf, fun _ _ q => q⟩
theorem sv_324 {ok : Bool} (hd : 9 ≤ d) (hop : op < 256) (hm : m ≤ k) (hk : k ≤ 20) (hst : k + m + 3 ≤ st.length) (hs : st.length ≤ 1000) (F0 : hB.i 24074 M = 0) (fin : ∀ h9, OkM hB h9 M Z F O p N I J pp a n j inp K B L t Bp (R.map (fun s => (s, alt))) → Q h9) (hR : R = endP (decide (op = 175)) ok (dr st (k + m + 3))) (X : SvI hB h M Z F O p N I J pp a n j inp K B L t Bp st alt) : Aw G mX24_several (d + 1) 0 h0 (kV Q nE) 324 [vR M, vI (nI op), vJ (lN k), vU, vJ (lN m), vU, vU, vU, vU, vU, vI (bB ok), vU, vU, vU] [] h := by
  have I := X.qi F0
  have JJ := I.drop (n := k + m + 3) hst
  have et := I.top (n := k + m + 3) hst
  have ld := dr_len st (k + m + 3)
  have ld2 : (dr st (k + m + 3)).length ≤ 1000 := by omega
  have hd5 : 5 ≤ d := by omega
  refine sX24_several_324 h M (nI op) (lN k) (lN m) (bB ok) ⟨X.2.2.1.1.1, fun h2 e2 => ?_⟩
  rw [lZ_nn, lZ_nn, lZ_add, ← Int.natCast_add, ← lZ_nn, lN_i, show (3 : Int32) = nI 3 from rfl, nI_add, et] at e2
  rw [← e2] at JJ
  refine pk_eq' op 175 (fun z => ?_) (fun z => ?_) rfl rfl (by omega) (by decide)
  · exact (m_ans (vf := false) hd5 X.1 X.2.1 JJ X.2.2.1 ld2 (by rw [hR, decide_eq_false z])).nV (fun h9 q => fin h9 q)
  · exact (m_ans (vf := true) hd5 X.1 X.2.1 JJ X.2.2.1 ld2 (by rw [hR, decide_eq_true z])).nV (fun h9 q => fin h9 q)
/-- a row of the stack by its place from above -/
theorem SvI.row (X : SvI hB h M Z F O p N I J pp a n j inp K B L t Bp st alt) {x : Nat} (hx : x < st.length) : O + 7 < rwA h Z (st.length - 1 - x) ∧ rwA h Z (st.length - 1 - x) < h.z ∧ h.kd (rwA h Z (st.length - 1 - x)) = 101 ∧ (h.ai (rwA h Z (st.length - 1 - x))).length = 520 ∧ (tp st x).length ≤ 520 ∧ eqN (tp st x).length (h.ai (rwA h Z (st.length - 1 - x))) (tp st x) ∧ (h.ar Z).getD (st.length - 1 - x) 0 = rwA h Z (st.length - 1 - x) ∧ (h.ai (Z + 1)).getD (st.length - 1 - x) 0 = nI (tp st x).length := by
  obtain ⟨a1, a2, a3, a4, a5, a6, a7, a8, _⟩ := X.2.2.elt hx
  have l3 := X.2.2.2.1.2.2.1
  exact ⟨X.2.1.2.2.2.2.2.2.2.2 _ ⟨st.length - 1 - x, by omega, a1, rfl⟩, a8, a6, a7, a3, a4, a5, a2⟩
theorem sv_219 {kl sl : Nat} {c0 : List Int32} (hd : 9 ≤ d) (hop : op < 256) (hm : m ≤ k) (hk : k ≤ 20) (hst : k + m + 3 ≤ st.length) (hs : st.length ≤ 1000) (F0 : hB.i 24074 M = 0) (fin : ∀ h9, OkM hB h9 M Z F O p N I J pp a n j inp K B L t Bp (R.map (fun s => (s, alt))) → Q h9) (k1 : kl < k) (s1 : sl < m)
    (nx : ∀ h', SvI hB h' M Z F O p N I J pp a n j inp K B L t Bp st alt → (∃ cu le, ((cu = Z + 10 ∧ le = Z + 11) ∨ (cu = Z + 11 ∧ le = Z + 10)) ∧ CutAt h' M cu le (clnsF st k c0 m)) → Cw G mX24_isGood d 0 [vR M, vR (rwA h' Z (st.length - 1 - (k + 2 + (m - (sl + 1))))), vI (nI (tp st (k + 2 + (m - (sl + 1)))).length), vR (rwA h' Z (st.length - 1 - (1 + (k - (kl + 1))))), vI (nI (tp st (1 + (k - (kl + 1)))).length)] h' (kI (fun x13 h14 => ((x13 = 0 → Aw G mX24_several (d + 1) 0 h0 (kV Q nE) 296 [vR M, vI (nI op), vJ (lN k), vU, vJ (lN m), vU, vI (nI (st.length - 2)), vI (nI (st.length - 3 - k)), vI (nI (sl + 1)), vI (nI (kl + 1)), vU, vU, vU, vU] [] h14) ∧ (¬ x13 = 0 → Aw G mX24_several (d + 1) 0 h0 (kV Q nE) 296 [vR M, vI (nI op), vJ (lN k), vU, vJ (lN m), vU, vI (nI (st.length - 2)), vI (nI (st.length - 3 - k)), vI (nI (sl + 1) + (-1)), vI (nI (kl + 1)), vU, vU, vU, vU] [] h14))) (fun x h => (kV Q nE) (.inr x) h))) : ∀ (i : Nat) (h : AH), i ≤ m → SvI hB h M Z F O p N I J pp a n j inp K B L t Bp st alt ∧ (∃ cu le, ((cu = Z + 10 ∧ le = Z + 11) ∨ (cu = Z + 11 ∧ le = Z + 10)) ∧ CutAt h M cu le (clnsF st k c0 i)) →
    Aw G mX24_several (d + 1) 0 h0 (kV Q nE) 219 [vR M, vI (nI op), vJ (lN k), vU, vJ (lN m), vU, vI (nI (st.length - 2)), vI (nI (st.length - 3 - k)), vI (nI (sl + 1)), vI (nI (kl + 1)), vU, vI (nI (st.length - 3 - k - (m - (sl + 1)))), vI (nI (st.length - 2 - (k - (kl + 1)))), vI (nI i)] [] h := by
  refine loop_uc (n := m) (P := fun i h => Aw G mX24_several (d + 1) 0 h0 (kV Q nE) 219 [vR M, vI (nI op), vJ (lN k), vU, vJ (lN m), vU, vI (nI (st.length - 2)), vI (nI (st.length - 3 - k)), vI (nI (sl + 1)), vI (nI (kl + 1)), vU, vI (nI (st.length - 3 - k - (m - (sl + 1)))), vI (nI (st.length - 2 - (k - (kl + 1)))), vI (nI i)] [] h) (fun i h => SvI hB h M Z F O p N I J pp a n j inp K B L t Bp st alt ∧ (∃ cu le, ((cu = Z + 10 ∧ le = Z + 11) ∨ (cu = Z + 11 ∧ le = Z + 10)) ∧ CutAt h M cu le (clnsF st k c0 i))) (fun i h hi hI ih => ?_)
  obtain ⟨X, cu, le, hc, C⟩ := hI
  have Hs := X.2.2.1.1
  have e1 : st.length - 3 - k - (m - (sl + 1)) = st.length - 1 - (k + 2 + (m - (sl + 1))) := by omega
  have e2 : st.length - 2 - (k - (kl + 1)) = st.length - 1 - (1 + (k - (kl + 1))) := by omega
  have e3 : i < m → st.length - 3 - k - i = st.length - 1 - (k + 2 + i) := fun _ => by omega
  have q1 : k + 2 + (m - (sl + 1)) < st.length := by omega
  have q2 : 1 + (k - (kl + 1)) < st.length := by omega
  have q3 : i < m → k + 2 + i < st.length := fun _ => by omega
  have q4 : i < m → i ≤ st.length - 3 - k := fun _ => by omega
  have lt : ∀ x, st.length - 1 - x < 1002 := fun x => by omega
  have lt2 : ∀ x, st.length - 1 - x < 2 ^ 31 := fun x => by omega
  have hd3 : 3 ≤ d := by omega
  have hi2 : i < 2 ^ 31 := by omega
  have hm2 : m < 2 ^ 31 := by omega
  have ele : (lN m ≤ (nI i).toInt64) ↔ m ≤ i := by
    rw [nI_l hi2]
    exact lN_le63 (by omega) (by omega)
  have hM := X.2.1.1.1
  obtain ⟨b1, b2, b3, b4, b5, b6, b7, b8⟩ := X.row q1
  obtain ⟨a1, a2, a3, a4, a5, a6, a7, a8⟩ := X.row q2
  refine sX24_several_219 h M (nI op) (lN k) (lN m) (nI (st.length - 2)) (nI (st.length - 3 - k)) (nI (sl + 1)) (nI (kl + 1)) _ _ (nI i) ⟨fun z => ⟨Hs.1, fun r3 e3' => ?_⟩, fun z => ⟨Hs.1, fun r17 e17 => ?_⟩⟩
  · have him : i = m := by
      have := ele.mp z
      omega
    rw [him] at C
    rw [show r3 = Z from e3'.trans Hs.2.1.1, Hs.2.2.2.1.1, e1, e2, pk_cl (st.length - 1 - (k + 2 + (m - (sl + 1)))) rfl (lt2 _), pk_cl (st.length - 1 - (1 + (k - (kl + 1)))) rfl (lt2 _), b7, a7]
    refine ⟨Hs.2.2.1.1, pk_in _ 1002 (lt _), fun r6 e6 r7 e7 => ?_⟩
    rw [e6, show r7 = Z + 1 from e7.trans Hs.2.1.2.1, Hs.2.2.2.1.2.1, a8, b8]
    refine ⟨Hs.2.2.1.2.1, pk_in _ 1002 (lt _), pk_in _ 1002 (lt _), fun r11 e11 => ⟨pk_in _ 1002 (lt _), ?_⟩⟩
    rw [e11]
    exact nx h X ⟨cu, le, hc, C⟩
  · have him : i < m := by
      have := mt ele.mpr z
      omega
    obtain ⟨g1, g2, g3, g4, g5, g6, g7, g8⟩ := X.row (q3 him)
    rw [show r17 = Z from e17.trans Hs.2.1.1, Hs.2.2.2.1.1, pk_sub (q4 him), e3 him, pk_cl (st.length - 1 - (k + 2 + i)) rfl (lt2 _), g7]
    refine ⟨Hs.2.2.1.1, pk_in _ 1002 (lt _), fun r20 e20 r21 e21 => ?_⟩
    rw [e20, show r21 = Z + 1 from e21.trans Hs.2.1.2.1, Hs.2.2.2.1.2.1, g8, nI_1]
    refine ⟨Hs.2.2.1.2.1, pk_in _ 1002 (lt _), m_without (g := tp st (k + 2 + i)) hd3 X.2.1 X.2.2 hc C g3 g1 g4 g5 g6 (fun h' G' E' H' C' => ?_)⟩
    exact ih him h' ⟨⟨X.1.trans G', E', H'⟩, C'⟩
end MSev
