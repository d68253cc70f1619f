/-! the reference: operations from 139 on -/
set_option maxRecDepth 100000
section MWork
variable {G : Gx} {d : Nat} {hB h h' h0 : AH} {M Z F O p N I J pp a n j inp : Nat} {K B L : List Int32} {t : TxP} {Bp : Pt} {st alt : List (List Int32)} {fl : Bool} {S : List Int32} {op i b e ops sa : Nat} {br : List Bool}
/-- what one operation of a run leaves -/
def OkA (h h' : AH) (M Z F O p N I J pp a n j inp : Nat) (K B L : List Int32) (t : TxP) (Bp : Pt) (A : Option RSt) : Prop :=
  ((∃ s, A = some s ∧ MOm h' M Z s.2.2.1 s.2.2.2.1 ∧ h'.i 24074 M = 0 ∧ h'.i 24080 M = nI s.1 ∧ h'.i 24082 M = nI s.2.1 ∧ BrM h' M Z s.2.2.2.2) ∨ ((A = none ∨ ∃ s, A = some s ∧ 1000 < s.2.2.1.length + s.2.2.2.1.length) ∧ h'.i 24074 M = 1 ∧ MWk h' M Z)) ∧ RnF h h' M Z F O ∧ MEnv h' M Z F O p N I J pp a n j inp K B L t Bp
theorem OkM.act {R : Option (List (List Int32) × List (List Int32))} {A : Option RSt} (x : OkM h h' M Z F O p N I J pp a n j inp K B L t Bp R) (S1 : h.i 24080 M = nI b) (S2 : h.i 24082 M = nI ops) (B1 : BrM h M Z br) (e_ : A = R.map (fun r => (b, ops, r.1, r.2, br))) : OkA h h' M Z F O p N I J pp a n j inp K B L t Bp A := by
  obtain ⟨x1, x2, x3, ⟨⟨o1, o2, o3⟩, o4⟩⟩ := x
  refine ⟨?_, x2, x3⟩
  rcases x1 with ⟨r, eR, m, f⟩ | ⟨eR, f, w⟩
  · exact Or.inl ⟨(b, ops, r.1, r.2, br), by rw [e_, eR]; rfl, m, f, o1.trans S1, o2.trans S2, o3.trans B1.1, by rw [o4]; exact B1.2⟩
  · refine Or.inr ⟨?_, f, w⟩
    rcases eR with eR | ⟨r, eR, hr⟩
    · exact Or.inl (by rw [e_, eR]; rfl)
    · exact Or.inr ⟨(b, ops, r.1, r.2, br), by rw [e_, eR]; rfl, hr⟩
theorem OkS.act {R : Option (List (List Int32) × Nat)} {A : Option RSt} (x : OkS h h' M Z F O p N I J pp a n j inp K B L t Bp alt R) (S1 : h.i 24080 M = nI b) (B1 : BrM h M Z br) (e_ : A = R.map (fun r => (b, r.2, r.1, alt, br))) : OkA h h' M Z F O p N I J pp a n j inp K B L t Bp A := by
  obtain ⟨x1, x2, x3, ⟨o1, o3⟩, o4⟩ := x
  refine ⟨?_, x2, x3⟩
  rcases x1 with ⟨r, eR, m, f, o2⟩ | ⟨eR, f, w⟩
  · exact Or.inl ⟨(b, r.2, r.1, alt, br), by rw [e_, eR]; rfl, m, f, o1.trans S1, o2, o3.trans B1.1, by rw [o4]; exact B1.2⟩
  · refine Or.inr ⟨?_, f, w⟩
    rcases eR with eR | ⟨r, eR, hr⟩
    · exact Or.inl (by rw [e_, eR]; rfl)
    · exact Or.inr ⟨(b, r.2, r.1, alt, br), by rw [e_, eR]; rfl, hr⟩
theorem actP_0 (hu : ub S i = op) (h1 : 78 < op) (h2 : op < 99 ∨ 104 < op) (hT : allT br = true) : actP p N Bp K B L t inp S e i (b, ops, st, alt, br) = if op = 171 then some (i + 1, ops, st, alt, br) else if op = 172 ∨ op = 173 then (match sinP p N Bp K B L t inp S b e op st with
    | none => none
    | some r => some (b, ops, r, alt, br))
  else if op = 174 ∨ op = 175 then (match sevP p N Bp K B L t inp S b e op ops st with
    | none => none
    | some r => some (b, r.2, r.1, alt, br))
  else match stepP K B (lkV L t) (sqV L t inp) op st alt with
    | none => none
    | some r => some (b, ops, r.1, r.2, br) := by
  unfold actP
  rw [hu, if_neg (by omega), if_neg (by omega), if_neg (show ¬ allT br = false by rw [hT]; decide)]
  rfl
theorem actP_sin (hu : ub S i = op) (h1 : op = 172 ∨ op = 173) (hT : allT br = true) : actP p N Bp K B L t inp S e i (b, ops, st, alt, br) = ((sinP p N Bp K B L t inp S b e op st).map (fun s => (s, alt))).map (fun r => (b, ops, r.1, r.2, br)) := by
  rw [actP_0 hu (by omega) (by omega) hT, if_neg (by omega), if_pos h1]
  cases sinP p N Bp K B L t inp S b e op st <;> rfl
theorem actP_sev (hu : ub S i = op) (h1 : op = 174 ∨ op = 175) (hT : allT br = true) : actP p N Bp K B L t inp S e i (b, ops, st, alt, br) = (sevP p N Bp K B L t inp S b e op ops st).map (fun r => (b, r.2, r.1, alt, br)) := by
  rw [actP_0 hu (by omega) (by omega) hT, if_neg (by omega), if_neg (by omega), if_pos h1]
  cases sevP p N Bp K B L t inp S b e op ops st <;> rfl
theorem actP_stp (hu : ub S i = op) (h1 : 78 < op) (h2 : op < 99 ∨ 104 < op) (h3 : op < 171 ∨ 175 < op) (hT : allT br = true) : actP p N Bp K B L t inp S e i (b, ops, st, alt, br) = (stepP K B (lkV L t) (sqV L t inp) op st alt).map (fun r => (b, ops, r.1, r.2, br)) := by
  rw [actP_0 hu h1 h2 hT, if_neg (by omega), if_neg (by omega), if_neg (by omega)]
  cases stepP K B (lkV L t) (sqV L t inp) op st alt <;> rfl
theorem stepP_num (h1 : 139 ≤ op) (h2 : op ≤ 165) {lk sq : Nat} : stepP K B lk sq op st alt = (numsP op st).map (fun s => (s, alt)) := by
  unfold stepP
  rw [if_neg (by omega), if_pos ⟨h1, h2⟩]
  cases numsP op st <;> rfl
theorem stepP_dig (h1 : 166 ≤ op) (h2 : op ≤ 170) {lk sq : Nat} : stepP K B lk sq op st alt = if op = 167 ∨ st.length < 1 then none else some (dr st 1 ++ [dgL K B op (tp st 0)], alt) := by
  unfold stepP
  rw [if_neg (by omega), if_neg (by omega), if_pos ⟨h1, h2⟩]
theorem stepP_nop (h1 : op = 97 ∨ op = 176 ∨ (178 ≤ op ∧ op ≤ 185)) {lk sq : Nat} : stepP K B lk sq op st alt = some (st, alt) := by
  unfold stepP
  rw [if_neg (by omega), if_neg (by omega), if_neg (by omega), if_pos h1]
theorem stepP_lat {lk sq : Nat} : stepP K B lk sq 177 st alt = latP st alt lk sq := rfl
theorem stepP_mov (h1 : op = 80 ∨ (98 ≤ op ∧ op < 139) ∨ 185 < op) {lk sq : Nat} : stepP K B lk sq op st alt = movP op st alt := by
  unfold stepP
  rw [if_neg (by omega), if_neg (by omega), if_neg (by omega), if_neg (by omega), if_neg (by omega)]
theorem movP_no (h1 : op < 105 ∨ op = 106 ∨ (125 < op ∧ op < 130) ∨ (130 < op ∧ op < 135) ∨ 136 < op) : movP op st alt = none := by
  unfold movP
  rw [if_neg (by omega), if_neg (by omega), if_neg (by omega), if_neg (by omega), if_neg (by omega), if_neg (by omega), if_neg (by omega), if_neg (by omega), if_neg (by omega), if_neg (by omega), if_neg (by omega), if_neg (by omega), if_neg (by omega), if_neg (by omega), if_neg (by omega), if_neg (by omega), if_neg (by omega), if_neg (by omega), if_neg (by omega), if_neg (by omega), if_neg (by omega), if_neg (by omega)]
set_option maxHeartbeats 1000000 in
theorem MD_work_spec (hd : 12 ≤ d) (h1 : 139 ≤ op) (h2 : op < 256) (h3 : nvB op = false) (hu : ub S i = op) (hT : allT br = true) (E : MEnv h M Z F O p N I J pp a n j inp K B L t Bp) (T : MdT h M) (H : MOm h M Z st alt) (F0 : h.i 24074 M = 0) (hsa : st.length + alt.length ≤ 1000) (hops : ops ≤ 201) (c1 : h.r 24079 M = sa) (c2 : h.i 24080 M = nI b) (c3 : h.i 24081 M = nI e) (o1 : h.i 24082 M = nI ops) (B1 : BrM h M Z br) (ks : h.kd sa = 101) (eS : h.ai sa = S) (sO : O + 7 < sa ∧ sa < h.z) (hbe : b ≤ e) (hl : e ≤ S.length) (hl2 : S.length < 2 ^ 16) (hn : e - b ≤ 1600) : Cw G mX24_work_2 d 0 [vR M, vI (nI op), vI (nI (i + 1))] h (kV (fun h' => OkA h h' M Z F O p N I J pp a n j inp K B L t Bp (actP p N Bp K B L t inp S e i (b, ops, st, alt, br))) nE) := by
  obtain ⟨d, rfl⟩ : ∃ d', d = d' + 1 := ⟨d - 1, by omega⟩
  have kM := H.1.1.1
  have I0 := QI.rf H F0
  have hd1 : 1 ≤ d := by omega
  have hd6 : 6 ≤ d := by omega
  have hd8 : 8 ≤ d := by omega
  have hdA : 10 ≤ d := by omega
  have hs : st.length ≤ 1000 := by omega
  have stp : op < 171 ∨ 175 < op → actP p N Bp K B L t inp S e i (b, ops, st, alt, br) = (stepP K B (lkV L t) (sqV L t inp) op st alt).map (fun r => (b, ops, r.1, r.2, br)) := fun q => actP_stp hu (by omega) (by omega) q hT
  have okm : ∀ {h3 : AH} {R : Option (List (List Int32) × List (List Int32))}, (op < 171 ∨ 175 < op) → OkM h h3 M Z F O p N I J pp a n j inp K B L t Bp R → stepP K B (lkV L t) (sqV L t inp) op st alt = R → OkA h h3 M Z F O p N I J pp a n j inp K B L t Bp (actP p N Bp K B L t inp S e i (b, ops, st, alt, br)) := fun q x e_ => x.act c2 o1 B1 (by rw [stp q, e_])
  have bad : ∀ {h3 : AH}, (op < 171 ∨ 175 < op) → QI h h3 M Z true st alt → stepP K B (lkV L t) (sqV L t inp) op st alt = none → OkA h h3 M Z F O p N I J pp a n j inp K B L t Bp (actP p N Bp K B L t inp S e i (b, ops, st, alt, br)) := fun q x e_ => okm q (OkQ.m E H.1 (OkQ.no x rfl)) e_
  have good : ∀ {h3 : AH}, (op < 171 ∨ 175 < op) → QI h h3 M Z false st alt → stepP K B (lkV L t) (sqV L t inp) op st alt = some (st, alt) → OkA h h3 M Z F O p N I J pp a n j inp K B L t Bp (actP p N Bp K B L t inp S e i (b, ops, st, alt, br)) := fun q x e_ => okm q (OkQ.m E H.1 (OkQ.ok x rfl)) e_
  have oc : ∀ {n : Nat}, n < 256 → nI op = nI n → op = n := fun hn q => (nI_eq (by omega) (by omega)).mp q
  refine eX24_work_2 h M (nI op) (nI (i + 1)) (fun _ => sX24_work_2_0 h M (nI op) (nI (i + 1)) (pk_lt op 139 (fun q => absurd q (by omega)) (fun _ => pk_lt 165 op (fun q5 => ?_) (fun q5 => ⟨kM, ?_⟩))))
  · have dig : ∀ {Ψ : Int32 → AH → Prop} {X : Nat → AH → Prop}, (op = 166 ∨ op = 168 ∨ op = 169 ∨ op = 170) → (∀ h3, OkA h h3 M Z F O p N I J pp a n j inp K B L t Bp (actP p N Bp K B L t inp S e i (b, ops, st, alt, br)) → Ψ 0 h3) → (Cw G mX24_digested d 0 [vR M, vI (nI op)] h (kV (fun h' => OkA h h' M Z F O p N I J pp a n j inp K B L t Bp (actP p N Bp K B L t inp S e i (b, ops, st, alt, br))) nE) → Ψ 1 h) → Cw G mX24_need d 0 [vR M, vI 1] h (kI Ψ X) := fun q p0 p1 =>
      m_need (n := 1) hd1 (by decide) I0 (fun g1 => p1 ((MD_digested_spec hd8 q E T H F0 g1).nV (fun h7 Q => okm (by omega) Q (by rw [stepP_dig (by omega) (by omega), if_neg (by omega)])))) (fun g1 h3 J1 => p0 h3 (bad (by omega) J1 (by rw [stepP_dig (by omega) (by omega), if_pos (Or.inr g1)])))
    have ask : ∀ {Ψ : Int32 → AH → Prop} {X : Nat → AH → Prop}, (op = 172 ∨ op = 173) → (∀ h3, OkA h h3 M Z F O p N I J pp a n j inp K B L t Bp (actP p N Bp K B L t inp S e i (b, ops, st, alt, br)) → Ψ 0 h3) → (Cw G mX24_asked d 0 [vR M, vI (nI op)] h (kV (fun h' => OkA h h' M Z F O p N I J pp a n j inp K B L t Bp (actP p N Bp K B L t inp S e i (b, ops, st, alt, br))) nE) → Ψ 1 h) → Cw G mX24_need d 0 [vR M, vI 2] h (kI Ψ X) := fun q p0 p1 =>
      m_need (n := 2) hd1 (by decide) I0 (fun g1 => p1 ((MD_asked_spec hdA h2 E H F0 g1 hs c1 c2 c3 ks eS sO.1 hbe hl hl2 hn).nV (fun h7 Q => Q.act c2 o1 B1 (actP_sin hu q hT)))) (fun g1 h3 J1 => p0 h3 ((OkQ.m (R := (sinP p N Bp K B L t inp S b e op st).map (fun s => (s, alt))) E H.1 (OkQ.no J1 (by
        unfold sinP
        rw [if_pos g1]
        rfl))).act c2 o1 B1 (actP_sin hu q hT)))
    refine sX24_work_2_20 h M (nI op) (nI (i + 1)) ⟨fun c => ?_, fun c => ?_, fun c => ?_, fun c => ?_, fun c => ?_, fun c => ?_, fun c => ?_, fun c => ?_, fun c => ?_, fun c => ?_, fun c => ?_⟩
    · exact ⟨kM, dig (Or.inl (oc (n := 166) (by decide) c)) (fun h3 x => ⟨fun _ => x, fun q => absurd rfl q⟩) (fun x => ⟨fun q => absurd q (by decide), fun _ => x⟩)⟩
    · exact ⟨kM, dig (Or.inr (Or.inl (oc (n := 168) (by decide) c))) (fun h3 x => ⟨fun _ => x, fun q => absurd rfl q⟩) (fun x => ⟨fun q => absurd q (by decide), fun _ => x⟩)⟩
    · exact ⟨kM, dig (Or.inr (Or.inr (Or.inl (oc (n := 169) (by decide) c)))) (fun h3 x => ⟨fun _ => x, fun q => absurd rfl q⟩) (fun x => ⟨fun q => absurd q (by decide), fun _ => x⟩)⟩
    · exact ⟨kM, dig (Or.inr (Or.inr (Or.inr (oc (n := 170) (by decide) c)))) (fun h3 x => ⟨fun _ => x, fun q => absurd rfl q⟩) (fun x => ⟨fun q => absurd q (by decide), fun _ => x⟩)⟩
    · obtain rfl : op = 171 := oc (n := 171) (by decide) c
      refine ⟨kM, fun h35 e35 => ?_⟩
      rw [actP_0 hu (by omega) (by omega) hT, if_pos rfl, e35]
      refine ⟨Or.inl ⟨_, rfl, H.pk _ (by decide) (by decide), ?_, ?_, ?_, ?_, B1.2⟩, RnF.pi _ (by decide), E.pk H.1 _ (by decide)⟩
      · rw [AH.i_pi, if_neg (fun q => absurd q.1 (by decide))]
        exact F0
      · rw [AH.i_pi, if_pos ⟨rfl, rfl⟩]
      · rw [AH.i_pi, if_neg (fun q => absurd q.1 (by decide))]
        exact o1
      · rw [AH.i_pi, if_neg (fun q => absurd q.1 (by decide))]
        exact B1.1
    · exact ⟨kM, ask (Or.inl (oc (n := 172) (by decide) c)) (fun h3 x => ⟨fun _ => x, fun q => absurd rfl q⟩) (fun x => ⟨fun q => absurd q (by decide), fun _ => x⟩)⟩
    · exact ⟨kM, ask (Or.inr (oc (n := 173) (by decide) c)) (fun h3 x => ⟨fun _ => x, fun q => absurd rfl q⟩) (fun x => ⟨fun q => absurd q (by decide), fun _ => x⟩)⟩
    · exact ⟨kM, (MD_several_spec hdA h2 hops E H F0 o1 hs c1 c2 c3 ks eS sO hbe hl hl2 hn).nV (fun h7 Q => Q.act c2 B1 (actP_sev hu (Or.inl (oc (n := 174) (by decide) c)) hT))⟩
    · exact ⟨kM, (MD_several_spec hdA h2 hops E H F0 o1 hs c1 c2 c3 ks eS sO hbe hl hl2 hn).nV (fun h7 Q => Q.act c2 B1 (actP_sev hu (Or.inr (oc (n := 175) (by decide) c)) hT))⟩
    · obtain rfl : op = 177 := oc (n := 177) (by decide) c
      refine ⟨kM, m_need (n := 1) hd1 (by decide) I0 (fun g1 => ⟨fun q => absurd q (by decide), fun _ => (MD_locked_spec hd6 E H F0 g1).nV (fun h7 Q => okm (by omega) Q rfl)⟩) (fun g1 h3 J1 => ⟨fun _ => bad (by omega) J1 ?_, fun q => absurd rfl q⟩)⟩
      rw [stepP_lat]
      unfold latP
      rw [if_pos (Or.inl g1)]
    · have z : ∀ n, op = n → nI op = nI n := fun n e => by rw [e]
      obtain ⟨c66, c68, c69, c70, c71, c72, c73, c74, c75, c77⟩ := c
      have d66 : op ≠ 166 := fun e => c66 (z _ e)
      have d68 : op ≠ 168 := fun e => c68 (z _ e)
      have d69 : op ≠ 169 := fun e => c69 (z _ e)
      have d70 : op ≠ 170 := fun e => c70 (z _ e)
      have d71 : op ≠ 171 := fun e => c71 (z _ e)
      have d72 : op ≠ 172 := fun e => c72 (z _ e)
      have d73 : op ≠ 173 := fun e => c73 (z _ e)
      have d74 : op ≠ 174 := fun e => c74 (z _ e)
      have d75 : op ≠ 175 := fun e => c75 (z _ e)
      have d77 : op ≠ 177 := fun e => c77 (z _ e)
      clear c66 c68 c69 c70 c71 c72 c73 c74 c75 c77 z dig ask
      have fl : ∀ {g : AH}, g = h.pi 24074 M ((0 : Int32) ||| 1) → QI h g M Z true st alt := fun e_ => by rw [e_]; exact I0.fail
      rw [F0]
      refine ⟨kM, pk_eq op 167 (fun q => ⟨Or.inr rfl, fun h71 e71 => bad (by omega) (fl e71) ?_⟩) (fun q => pk_le op 185 (fun q2 => ⟨Or.inl rfl, fun h74 e74 => good (by omega) ?_ ?_⟩) (fun q2 => ⟨Or.inr rfl, fun h76 e76 => bad (by omega) (fl e76) ?_⟩))⟩
      · rw [stepP_dig (by omega) (by omega), if_pos (Or.inl q)]
      · rw [e74, show (0 : Int32) ||| 0 = h.i 24074 M from F0.symm, AH.pi_self h rfl]
        exact I0
      · exact stepP_nop (by omega)
      · rw [stepP_mov (by omega)]
        exact movP_no (by omega)
  · exact (MD_reckon_spec hd6 h1 (by omega) h3 H F0 hs).nV (fun h4 Q => okm (by omega) (Q.m E H.1) (stepP_num h1 (by omega)))
end MWork
