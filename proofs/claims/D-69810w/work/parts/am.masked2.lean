/-! the reference: an operation with one signature: the whole -/
set_option maxRecDepth 100000
theorem k4_in {k : Nat} (q : k ∈ [24063, 24087, 24088, 24089]) : k ∈ [24040, 24041, 24063, 24087, 24088, 24089, 24091] := by
  rcases List.mem_cons.mp q with q | q
  · rw [q]; decide
  · rcases List.mem_cons.mp q with q | q
    · rw [q]; decide
    · rcases List.mem_cons.mp q with q | q
      · rw [q]; decide
      · rw [List.mem_singleton.mp q]; decide
theorem k4_no {k : Nat} (hk : k < 24063) : k ∉ [24063, 24087, 24088, 24089] := fun q => by
  rcases List.mem_cons.mp q with q | q
  · omega
  · rcases List.mem_cons.mp q with q | q
    · omega
    · rcases List.mem_cons.mp q with q | q
      · omega
      · have := List.mem_singleton.mp q
        omega
section MAsk2
variable {G : Gx} {d : Nat} {hB h h' h0 : AH} {M Z F O p N I J pp a n j inp : Nat} {K B L : List Int32} {t : TxP} {Bp : Pt} {st alt : List (List Int32)} {fl : Bool} {cu le : Nat} {c g S : List Int32}
/-- the code that is cut has changed -/
theorem MEnv.cut (E : MEnv h M Z F O p N I J pp a n j inp K B L t Bp) (H : MOm h M Z st alt) {cc : List Int32} (S_ : Same (fun y => y = M ∨ y = Z + 10 ∨ y = Z + 11) h h') (hz : h'.z = h.z) (hs : h'.s = h.s) (kp : Kp [24063, 24087, 24088, 24089] M h h') (hc : ((cu = Z + 10 ∧ le = Z + 11) ∨ (cu = Z + 11 ∧ le = Z + 10))) (C : CutAt h' M cu le cc) : GoF h h' M Z F O ∧ MEnv h' M Z F O p N I J pp a n j inp K B L t Bp ∧ MOm h' M Z st alt := by
  have E' := E
  obtain ⟨E1, ⟨f, E2, f7, hB⟩, E3, _, _, _, _, ⟨z1, z2, z3⟩, tb⟩ := E
  have hM := E1.1
  have GF : GoF h h' M Z F O := ⟨S_.mono (fun y _ q => by
    unfold goQ
    rcases q with q | q | q
    · exact Or.inl (by omega)
    · exact Or.inr (Or.inl (by omega))
    · exact Or.inr (Or.inl (by omega))), hz, hs, fun k hk => kp k (fun q => hk (k4_in q))⟩
  have mm := GF.mom hM H tb
  have eq_ : ∀ y, y ≤ O + 7 → y ≠ M → y ≠ Z + 10 → y ≠ Z + 11 → eqAt h h' y := fun y h1 h2 h3 h4 => S_.2.2 y (by omega) (by omega)
  have kM : h'.kd M = h.kd M := S_.kd (by omega)
  have e46 := eq_ (M + 46) (by omega) (by omega) (by omega) (by omega)
  refine ⟨GF, GF.env E' ⟨f, E2.eqc kM (fun k hk => (kp k (k4_no (by omega))).1) (fun y h1 h2 => eq_ y (by omega) (by omega) (by omega) (by omega)) e46.1 (by rw [e46.2.2.2.2.1]) (fun y h1 h2 => eq_ y (by omega) (by omega) (by omega) (by omega)) (fun y h1 h2 => eq_ y h2 (by omega) (by omega) (by omega)), f7, hB⟩ ⟨E3.1.kp kM kp (fun k hk => k4_no (by omega)) (fun q h1 h2 => ?_), by rw [(eq_ (M + 5) (by omega) (by omega) (by omega) (by omega)).2.2.2.2.1]; exact E3.2.1, by rw [(eq_ (M + 4) (by omega) (by omega) (by omega) (by omega)).2.2.2.2.1]; exact E3.2.2⟩ ⟨cc, cu, le, hc, C⟩ mm.2, mm.1⟩
  have e := eq_ q (by omega) (by omega) (by omega) (by omega)
  exact ⟨e.1, by rw [e.2.2.2.2.1]⟩
theorem m_load {sa b nn : Nat} {Q : AH → Prop} {X : Nat → AH → Prop} (hd : 1 ≤ d) (E : MEnv h M Z F O p N I J pp a n j inp K B L t Bp) (H : MOm h M Z st alt) (ks : h.kd sa = 101) (eS : h.ai sa = S) (sO : O + 7 < sa) (hl : b + nn ≤ S.length) (hl2 : S.length < 2 ^ 31) (hn : nn ≤ 1600)
    (hK : ∀ h', GoF h h' M Z F O → MEnv h' M Z F O p N I J pp a n j inp K B L t Bp → MOm h' M Z st alt → (∃ cu le, ((cu = Z + 10 ∧ le = Z + 11) ∨ (cu = Z + 11 ∧ le = Z + 10)) ∧ CutAt h' M cu le (sub_ S b nn)) → Q h') : Cw G mX24_load d 0 [vR M, vR sa, vI (nI b), vI (nI nn)] h (kV Q X) := by
  have hM := E.1.1
  obtain ⟨c0, cu, le, hc, C⟩ := E.2.2.2.1
  have C' := C
  obtain ⟨d1, d2, d3, d4, d5, d6, d7, d8, d9, d10, d11⟩ := C
  have ncu : cu ≤ O + 7 := by omega
  refine (MD_load_spec hd d1 d2 d5 d7 ks (by omega) (by rw [eS]; exact hl) (by rw [eS]; exact hl2) (by omega)).nV (fun h16 e16 => ?_)
  rw [eS] at e16
  have al : h16.ai cu = putB (h.ai cu) 0 nn (fun i => S.getD (b + i) 0) := by rw [e16]; exact AH.ai_wiS _ _ _
  have ao : h16.ai le = h.ai le := by rw [e16]; exact AH.ai_wiN (fun q => d4 q.symm)
  have C16 : CutAt h16 M cu le (sub_ S b nn) := by
    refine ⟨by rw [e16]; exact d1, by rw [e16]; exact d2, by rw [e16]; exact d3, d4, by rw [e16]; exact d5, by rw [e16]; exact d6, by rw [al, putB_len]; exact d7, by rw [ao]; exact d8, by rw [e16, AH.i_pi, if_pos ⟨rfl, rfl⟩, sub_len], by rw [sub_len]; exact hn, fun i hi => ?_⟩
    rw [sub_len] at hi
    rw [al, putB_getD _ _ _ _ (by omega), if_pos ⟨Nat.zero_le _, by omega⟩, sub_getD hi, Nat.sub_zero]
  have r := E.cut H (cc := sub_ S b nn) (h' := h16) (by
    rw [e16]
    exact ((Same.rf (P := fun y => y = M ∨ y = Z + 10 ∨ y = Z + 11)).wi _ (putB_len _ _ _ _) (Or.inl (by omega))).pi _ _ (Or.inl (Or.inl rfl))) (by rw [e16]; rfl) (by rw [e16]; rfl) (by
    rw [e16]
    exact (Kp.rf.wi _).pi _ _ (Or.inl (by decide))) hc C16
  exact hK h16 r.1 r.2.1 r.2.2 ⟨cu, le, hc, C16⟩
theorem m_without {gr : Nat} {Q : AH → Prop} {X : Nat → AH → Prop} (hd : 3 ≤ d) (E : MEnv h M Z F O p N I J pp a n j inp K B L t Bp) (H : MOm h M Z st alt) (hc : ((cu = Z + 10 ∧ le = Z + 11) ∨ (cu = Z + 11 ∧ le = Z + 10))) (C : CutAt h M cu le c) (kg : h.kd gr = 101) (gO : O + 7 < gr) (lg : (h.ai gr).length = 520) (g5 : g.length ≤ 520) (qg : eqN g.length (h.ai gr) g)
    (hK : ∀ h', GoF h h' M Z F O → MEnv h' M Z F O p N I J pp a n j inp K B L t Bp → MOm h' M Z st alt → (∃ cu le, ((cu = Z + 10 ∧ le = Z + 11) ∨ (cu = Z + 11 ∧ le = Z + 10)) ∧ CutAt h' M cu le (clnP c c.length g)) → Q h') : Cw G mX24_without d 0 [vR M, vR gr, vI (nI g.length)] h (kV Q X) := by
  have hM := E.1.1
  by_cases z : g.length ≤ 255
  · refine (MD_without_spec hd C kg (by omega) (by omega) (by omega) qg z).nV (fun h18 R => ?_)
    obtain ⟨C18, S18, z18, s18, K18⟩ := R
    have hc2 : (le = Z + 10 ∧ cu = Z + 11) ∨ (le = Z + 11 ∧ cu = Z + 10) := by omega
    have r := E.cut (cu := le) (le := cu) H (cc := clnP c c.length g) (h' := h18) (S18.mono (fun y _ q => by omega)) z18 s18 K18 hc2 C18
    exact hK h18 r.1 r.2.1 r.2.2 ⟨le, cu, hc2, C18⟩
  · obtain ⟨d, rfl⟩ : ∃ d', d = d' + 1 := ⟨d - 1, by omega⟩
    refine eX24_without h M gr (nI g.length) (fun wf => sX24_without_0 h M gr (nI g.length) (pk_le g.length 255 (fun w => absurd w z) (fun _ => ?_)))
    refine hK h GoF.rf E H ⟨cu, le, hc, ?_⟩
    rw [clnP_long (by omega)]
    exact C
end MAsk2
