/-! the reference: whether an input may take an output: its own script has been run -/
set_option maxRecDepth 100000
section MUnl2
variable {G : Gx} {d : Nat} {hB h h' h0 : AH} {M Z F O p N I J pp a n j inp : Nat} {K B L : List Int32} {t : TxP} {Bp : Pt} {st alt : List (List Int32)} {fl : Bool} {Q0 : List Int32} {oo osz io isz pq ao : Nat} {st1 : List (List Int32)}
set_option maxHeartbeats 1000000 in
theorem un_240 {β : Bool} (hd : 20 ≤ d) (U : UnT hB h M Z F O p N I J pp a n j inp K B L t Bp) (H : MOm h M Z st1 alt) (hs : st1.length ≤ 1000) (sdv : nestB Q0 oo osz = true → StM h Z 2004 (Z + 5) st1 ∧ h.i 24073 M = nI st1.length) (kq : h.kd pq = 26) (rq : h.r 26000 pq = ao) (qO : O + 7 < pq ∧ pq < h.z) (ka : h.kd ao = 101) (eQ : h.ai ao = Q0) (aO : O + 7 < ao ∧ ao < h.z) (l5 : Q0.length ≠ 520) (hl : oo + osz ≤ Q0.length) (hl2 : Q0.length < 2 ^ 16) (hsz : osz ≤ 1600) (hil : io + isz ≤ L.length) (hβ : β = (match runP p N Bp K B L t inp Q0 oo (oo + osz) st1 with | none => false | some st2 => if topT st2 = false then false else if nestB Q0 oo osz = false then true else if (pushesF L (io + isz) isz io && decide (0 < st1.length)) = false then false else (match runP p N Bp K B L t inp (tp st1 0) 0 (tp st1 0).length (dr st1 1) with | none => false | some st3 => topT st3))) :
    Aw G mX24_unlocks (d + 1) 0 h0 (kI (fun x h' => x = bB β ∧ UnT hB h' M Z F O p N I J pp a n j inp K B L t Bp) nE) 240 [vR M, vR pp, vU, vU, vU, vU, vR pq, vI (nI oo), vI (nI osz), vI (nI io), vI (nI isz), vI (bB (nestB Q0 oo osz)), vU] [] h := by
  have Hs := H.1.1
  have hM := U.2.2.1.1.1
  have tb := U.2.2.1.2.2.2.2.2.2.2.2
  have zz := U.2.2.1.2.2.2.2.2.2.2.1.1
  have T := H.1.2.1
  have nT : ¬ inT h Z ao := tb_no T (Or.inr (by rw [eQ]; exact l5))
  refine sX24_unlocks_240 h M pp pq (nI oo) (nI osz) (nI io) (nI isz) (bB (nestB Q0 oo osz)) ⟨kq, fun r2 e2 => ⟨Hs.1, ?_⟩⟩
  rw [show r2 = ao from e2.trans rq]
  refine (MD_run_spec (off := oo) (sz := osz) (by omega) U.2.2.1 U.2.2.2.1 (H.mst hs) ka eQ aO nT hl hl2 hsz rfl).nI (fun x3 h4 Q => ?_)
  have U4 := U.run Q
  have sv4 := sv_rn Q.2.2.1 hM tb zz T U.2.2.2.2
  have k73 : h4.i 24073 M = h.i 24073 M := (Q.2.2.1.2.2.2.2 24073 (by decide)).2.1
  have nn : nestB Q0 oo osz = true → st1 = [] → runP p N Bp K B L t inp Q0 oo (oo + osz) st1 = none := fun q w => by rw [w]; exact nest_none q
  generalize runP p N Bp K B L t inp Q0 oo (oo + osz) st1 = RR at *
  obtain ⟨q1, q2⟩ := Q
  clear q2
  rcases q1 with ⟨st2, eR, ex, l2, alt2, m2⟩ | ⟨eR, ex⟩
  · rw [eR] at hβ
    replace hβ : β = if topT st2 = false then false else if nestB Q0 oo osz = false then true else if (pushesF L (io + isz) isz io && decide (0 < st1.length)) = false then false else (match runP p N Bp K B L t inp (tp st1 0) 0 (tp st1 0).length (dr st1 1) with | none => false | some st3 => topT st3) := hβ
    rw [ex, m2.2.1.1]
    have l1 := m2.2.1.2.2.1
    have lift0 : topT st2 = false → β = false := fun q => by rw [hβ, if_pos q]
    refine ⟨fun q => absurd q (by decide), fun _ => pk_eq st2.length 0 (fun z0 => ⟨?_, U4⟩) (fun z0 => (MD_isTrue_spec (k := 0) (by omega) m2 (by omega)).nI (fun x9 h10 Q9 => ?_))⟩
    · rw [lift0 (by unfold topT; rw [decide_eq_false (by omega)]; rfl)]
      rfl
    · obtain ⟨e9, e10⟩ := Q9
      rw [e10, e9]
      have tt : topT st2 = isT (tp st2 0) := by
        unfold topT
        rw [decide_eq_true (by omega), Bool.true_and]
      refine ⟨fun w => ?_, fun w => ⟨by rw [lift0 (tt.trans ((bB_0 _).mp w))]; rfl, U4⟩⟩
      have wt : isT (tp st2 0) = true := by
        cases q : isT (tp st2 0)
        · rw [q] at w
          exact absurd rfl w
        · rfl
      rw [if_neg (by rw [tt, wt]; decide)] at hβ
      refine ⟨fun wn => ?_, fun wn => ⟨by rw [hβ, if_pos ((bB_0 _).mp wn)]; rfl, U4⟩⟩
      have nt : nestB Q0 oo osz = true := by
        cases q : nestB Q0 oo osz
        · rw [q] at wn
          exact absurd rfl wn
        · rfl
      rw [if_neg (by rw [nt]; decide)] at hβ
      have s1 : 0 < st1.length := by
        rcases Nat.eq_zero_or_pos st1.length with w0 | w0
        · have := nn nt (List.length_eq_zero_iff.mp w0)
          rw [eR] at this
          cases this
        · exact w0
      rw [decide_eq_true s1, Bool.and_true] at hβ
      obtain ⟨P1, P2, _⟩ := U4.2.2.1.2.2.2.2.1
      obtain ⟨kL, eL⟩ := U4.2.2.1.2.2.2.2.2.1
      have w6 := U4.2.2.1.1.2.2.1.1.1.2
      refine ⟨P1.1, fun r14 e14 => ?_⟩
      rw [show r14 = a from e14.trans P2]
      refine (MD_isPushes_spec (off := io) (sz := isz) (by omega) U4.1.1.1 kL eL hil (by omega)).nI (fun x15 h16 Q15 => ?_)
      obtain ⟨e15, v, e16⟩ := Q15
      have U16 : UnT hB h16 M Z F O p N I J pp a n j inp K B L t Bp := by rw [e16]; exact U4.pi v (Or.inl rfl)
      rw [e15]
      refine ⟨fun y h20 e20 => ?_, fun y => ⟨by rw [hβ, if_pos ((bB_0 _).mp y)]; rfl, U16⟩⟩
      have pt : pushesF L (io + isz) isz io = true := by
        cases q : pushesF L (io + isz) isz io
        · rw [q] at y
          exact absurd rfl y
        · rfl
      rw [if_neg (by rw [pt]; decide)] at hβ
      have U20 : UnT hB h20 M Z F O p N I J pp a n j inp K B L t Bp := by rw [e20]; exact U16.pi 0 (Or.inr rfl)
      have m16 : MOm h16 M Z st2 alt2 := by rw [e16]; exact m2.pk v (by decide) (by decide)
      have m20 : MOm h20 M Z [] alt2 := by rw [e20]; exact m16.e0
      have sd20 : StM h20 Z 2004 (Z + 5) st1 := by
        rw [e20, e16]
        exact sv4.2 (by omega) (sdv nt).1
      have i20 : h20.i 24073 M = nI st1.length := by
        rw [e20, AH.i_pi, if_neg (fun q => absurd q.1 (by decide)), e16, AH.i_pi, if_neg (fun q => absurd q.1 (by decide)), k73]
        exact (sdv nt).2
      exact un_305 (by omega) U20 m20 sd20 i20 s1 hs hβ
  · rw [eR] at hβ
    replace hβ : β = false := hβ
    rw [ex]
    exact ⟨fun _ => ⟨by rw [hβ]; rfl, U4⟩, fun q => absurd rfl q⟩
end MUnl2
