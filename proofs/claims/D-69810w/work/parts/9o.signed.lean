/-! whether a signature of a script is right, by the component -/
set_option maxRecDepth 100000
def sdQ (Sg D C y : Nat) : Prop := sgQ Sg D y ∨ vfP C y
section Signed
variable {G : Gx} {d : Nat} {h : AH} {Sg q inp D a C p N : Nat} {K B L : List Int32} {t : TxP} {Bp : Pt} {e1 e2 n1 n2 : Nat} {g k : List Int32}
theorem Sg_signed_spec (hd : 9 ≤ d) (A : SgA h Sg D a) (eC : h.r 8001 Sg = C) (DA : DgA h D K B) (T : SgT h Sg q L t inp) (TI : TxIn L t) (hDS : D + 15 < Sg) (ka : h.kd a = 101) (na : a ≠ Sg + 1) (na2 : a ≠ Sg + 2) (eL : h.ai a = L)
    {sa so sn : Nat} (ks : h.kd sa = 101) (ns : sa ≠ Sg + 1) (ns2 : sa ≠ Sg + 2) (hs : so + sn ≤ (h.ai sa).length) (hs2 : (h.ai sa).length < 2 ^ 16) (hsn : sn ≤ 1600) (CG : CvG h C p N Bp) (sep : ∀ y, C ≤ y → y ≤ C + 91 → y < h.z ∧ ¬ sgQ Sg D y) (hSz : Sg + 2 < h.z)
    (E1 : ElAt h e1 g) (E2 : ElAt h e2 k) (x1 : e1 + 1 < h.z ∧ ¬ sgQ Sg D e1 ∧ ¬ sgQ Sg D (e1 + 1)) (x2 : e2 + 1 < h.z ∧ ¬ sgQ Sg D e2 ∧ ¬ sgQ Sg D (e2 + 1)) (hg : 0 < g.length)
    (s1 : (h.ai (e1 + 1)).getD 3 0 = nI n1) (hn1 : n1 < 128) (s2 : (h.ai (e1 + 1)).getD (5 + n1) 0 = nI n2) (hn2 : n2 < 128) :
    Cw G mX8_signed d 0 [vR Sg, vR e1, vR e2, vR sa, vI (nI so), vI (nI sn)] h (kI (fun x h' => Same (sdQ Sg D C) h h' ∧ h'.z = h.z ∧ h'.s = h.s ∧ Kp [8003] Sg h h' ∧ CvG h' C p N Bp ∧ ((x = 1 ∧ okS p N Bp (h.ai (e2 + 1)) k.length (sgV (h.ai (e1 + 1)) 4 n1) (sgV (h.ai (e1 + 1)) (6 + n1) n2) (beV (mkP K B L t inp (ub (h.ai (e1 + 1)) (g.length - 1)) (unmP (h.ai sa) (so + sn) so)) 0 32)) ∨ (x = 0 ∧ ¬ okS p N Bp (h.ai (e2 + 1)) k.length (sgV (h.ai (e1 + 1)) 4 n1) (sgV (h.ai (e1 + 1)) (6 + n1) n2) (beV (mkP K B L t inp (ub (h.ai (e1 + 1)) (g.length - 1)) (unmP (h.ai sa) (so + sn) so)) 0 32)))) nE) := by
  obtain ⟨d, rfl⟩ : ∃ d', d = d' + 1 := ⟨d - 1, by omega⟩
  have gl := E1.2.2.1
  refine eX8_signed h Sg e1 e2 sa (nI so) (nI sn) (fun w => sX8_signed_0 h Sg e1 e2 sa (nI so) (nI sn) ⟨E1.1.1, fun r2 er2 => ?_⟩)
  have er2' : r2 = e1 + 1 := er2.trans E1.1.2.1
  subst er2'
  have em : nI g.length - 1 = nI (g.length - 1) := pk_sub (show 1 ≤ g.length by omega)
  rw [E1.2.1, em, E1.1.2.2.2, pk_cl (g.length - 1) rfl (by omega), and_ub]
  have hty := ub_lt (h.ai (e1 + 1)) (g.length - 1)
  refine ⟨E1.1.2.2.1, pk_in (g.length - 1) 520 (by omega), A.1.1, (Sg_make_spec (by omega) A DA T TI hDS ka na na2 eL hty ks ns ns2 hs hs2 hsn).nV (fun h6 Q => ?_)⟩
  obtain ⟨m6, S6, z6, s6, K6⟩ := Q
  have q1 : eqAt h h6 e1 := S6.2.2 _ (by omega) x1.2.1
  have q1' : eqAt h h6 (e1 + 1) := S6.2.2 _ x1.1 x1.2.2
  have q2 : eqAt h h6 e2 := S6.2.2 _ (by omega) x2.2.1
  have q2' : eqAt h h6 (e2 + 1) := S6.2.2 _ x2.1 x2.2.2
  have G6 : CvG h6 C p N Bp := CG.eqc (fun y a b => S6.2.2 y (sep y a b).1 (sep y a b).2)
  intro r9 e9 r13 e13
  have e9' : r9 = C := e9.trans (((K6 8001 (by decide)).1).trans eC)
  have e13' : r13 = Sg + 2 := e13.trans (((K6 8004 (by decide)).1).trans A.1.2.2.2.1)
  rw [e9', e13']
  refine ⟨q2.1.trans E2.1.1, fun r15 e15 => ?_⟩
  have e15' : r15 = e2 + 1 := e15.trans ((q2.2.1 _).trans E2.1.2.1)
  rw [e15', q2.2.2.1, E2.2.1]
  have a1 : h6.ai (e1 + 1) = h.ai (e1 + 1) := q1'.2.2.2.2.1
  have a2 : h6.ai (e2 + 1) = h.ai (e2 + 1) := q2'.2.2.2.2.1
  have lm : ∀ c, (mkP K B L t inp (ub (h.ai (e1 + 1)) (g.length - 1)) c).length = 32 := fun c => by
    unfold mkP
    split <;> exact mapR_len _ _
  have kl := E2.2.2.1
  obtain ⟨g1, g2, g3, g4, g5, g6, g7, g8, g9, g10⟩ := G6
  refine ⟨g1.1.1, (Cv_verify_spec (n1 := n1) (n2 := n2) (by omega) g1 g2 g3 g9 g10 g4 g5 g6 g7 g8 (q1'.1.trans E1.1.2.2.1) a1 s1 hn1 s2 hn2 (by rw [E1.1.2.2.2]; omega) (by rw [E1.1.2.2.2]; decide) ((S6.kd hSz).trans A.2.2.1) m6 (lm _) (q2'.1.trans E2.1.2.2.1) a2 (by rw [E2.1.2.2.2]; omega) (by rw [E2.1.2.2.2]; decide)).nI (fun x16 h17 Q => ?_)⟩
  obtain ⟨M7, L7, l68, l75, dj⟩ := Q
  refine ⟨dj.elim (fun z => Or.inr z.1) (fun z => Or.inl z.1), (S6.mono (fun _ _ z => Or.inl z)).mod M7 (fun _ _ z => Or.inr z), M7.z.trans z6, M7.s.trans s6, ?_, ?_, dj⟩
  · intro j hj
    obtain ⟨b1, b2, b3⟩ := K6 j hj
    exact ⟨by rw [M7.r]; exact b1, by rw [M7.i]; exact b2, by rw [M7.l]; exact b3⟩
  · exact ⟨g1.mod M7, g2.vp M7, g3.vn M7, L7, g5.eqv (vf_base M7), l68, l75, (vf_base M7).trans g8, g9, g10⟩
end Signed
