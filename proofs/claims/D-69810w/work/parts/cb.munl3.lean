/-! the reference: whether an input may take an output: the whole -/
set_option maxRecDepth 100000
section MUnl3
variable {G : Gx} {d : Nat} {hB h h' h0 : AH} {M Z F O p N I J pp a n j inp : Nat} {K B L : List Int32} {t : TxP} {Bp : Pt} {st alt : List (List Int32)} {fl : Bool} {Q0 : List Int32} {pq ao nq row m Bk k0 : Nat} {tq : TxP} {cs pf : Nat → Nat} {idf : Nat → List Int32}
def unK : List Nat := 24073 :: 24076 :: 24077 :: 24078 :: rnK2
/-- the frame of a look at one input -/
def UnG (h h' : AH) (M Z F O : Nat) : Prop := Same (fun y => rmP h M Z F O y ∨ ksP h M Z y) h h' ∧ (∀ y, y < h.z → (inT h' Z y ∨ inS h' Z y) → (inT h Z y ∨ inS h Z y)) ∧ (h'.z + nulM h' Z = h.z + nulM h Z ∧ h'.s + 520 * nulM h' Z = h.s + 520 * nulM h Z) ∧ Kp unK M h h'
theorem UnG.trans {h2 : AH} (x : UnG h h' M Z F O) (y : UnG h' h2 M Z F O) : UnG h h2 M Z F O := by
  refine ⟨x.1.trans y.1 (fun q hq p => ?_), fun q hq p => x.2.1 q hq (y.2.1 q (Nat.lt_of_lt_of_le hq x.1.1) p), ⟨y.2.2.1.1.trans x.2.2.1.1, y.2.2.1.2.trans x.2.2.1.2⟩, x.2.2.2.trans y.2.2.2 (fun _ q => q)⟩
  have fin : inT h Z q ∨ inS h Z q → rmP h M Z F O q ∨ ksP h M Z q := fun w => by
    rcases w with w | w
    · exact Or.inl (Or.inl (Or.inr (Or.inr w)))
    · exact Or.inr (Or.inr (Or.inr (Or.inr w)))
  rcases p with p | p
  · rcases p with (p | p | p) | p
    · exact Or.inl (Or.inl (Or.inl p))
    · exact Or.inl (Or.inl (Or.inr (Or.inl p)))
    · exact fin (x.2.1 q hq (Or.inl p))
    · exact Or.inl (Or.inr p)
  · rcases p with p | p | p | p
    · exact Or.inr (Or.inl p)
    · exact Or.inr (Or.inr (Or.inl p))
    · exact Or.inr (Or.inr (Or.inr (Or.inl p)))
    · exact fin (x.2.1 q hq (Or.inr p))
theorem rn2_un {k : Nat} (q : k ∈ rnK2) : k ∈ unK := List.mem_cons_of_mem _ (List.mem_cons_of_mem _ (List.mem_cons_of_mem _ (List.mem_cons_of_mem _ q)))
theorem RnG.u (x : RnG h h' M Z F O) (hM : M + 46 < Z ∧ Z + 12 < F ∧ F + 7 < O) (tb : ∀ y, inT h Z y → O + 7 < y) (hz : O + 7 < h.z) : UnG h h' M Z F O := by
  have e4 := x.low hM tb hz (Or.inl rfl)
  refine ⟨x.1.mono (fun _ _ q => Or.inl q), fun y hy q => ?_, ⟨x.2.2.1, x.2.2.2.1⟩, fun k hk => x.2.2.2.2 k (fun q => hk (rn2_un q))⟩
  rcases q with q | q
  · exact Or.inl (x.2.1 y hy q)
  · obtain ⟨i, hi, q1, q2⟩ := q
    rw [rw_S e4.2.2.2.2.2.2 hi.1 hi.2] at q1 q2
    exact Or.inr ⟨i, hi, q1, q2⟩
theorem KsF.u (x : KsF h h' M Z) : UnG h h' M Z F O := by
  refine ⟨x.1.mono (fun _ _ q => Or.inr q), fun y hy q => ?_, ⟨x.2.2.2.1, x.2.2.2.2.1⟩, fun k hk => x.2.2.2.2.2 k (fun q => hk (by rw [List.mem_singleton.mp q]; decide))⟩
  rcases q with q | q
  · obtain ⟨i, hi, q1, q2⟩ := q
    rw [x.2.2.1 i hi] at q1 q2
    exact Or.inl ⟨i, hi, q1, q2⟩
  · exact Or.inr (x.2.1 y hy q)
/-- fields of the reference have been set -/
theorem UnG.fld (S : Same (fun y => y = M) h h') (ea : h'.ar = h.ar) (ez : h'.z = h.z) (es : h'.s = h.s) (k : Kp unK M h h') : UnG h h' M Z F O := by
  have er : ∀ i, rwA h' Z i = rwA h Z i := fun i => by unfold rwA; rw [ea]
  have en : nulM h' Z = nulM h Z := by unfold nulM; rw [ea]
  refine ⟨S.mono (fun _ _ q => Or.inl (Or.inl (Or.inl q))), fun y _ q => ?_, ⟨by rw [en, ez], by rw [en, es]⟩, k⟩
  rcases q with ⟨i, hi, q1, q2⟩ | ⟨i, hi, q1, q2⟩
  · rw [er] at q1 q2
    exact Or.inl ⟨i, hi, q1, q2⟩
  · rw [er] at q1 q2
    exact Or.inr ⟨i, hi, q1, q2⟩
theorem byte_eq {x : Int32} (hx : x.toInt8.toInt32 = x) {b : Nat} (hb : b < 256) {v : Int32} (hv : v = bI b) (hvb : v.toInt8.toInt32 = v) : x = v ↔ u32 x % 256 = b := by
  refine ⟨fun e => ?_, fun e => byte_inj hx hvb ?_⟩
  · rw [e, hv, u32_bI, Nat.mod_eq_of_lt hb]
  · rw [e, hv, u32_bI, Nat.mod_eq_of_lt hb]
theorem set_sc (u v : Int32) : ((((scH h M u v).pr 24076 M pp).pi 24077 M (nI j)).pi 24078 M (nI inp)) = scH (((h.pr 24076 M pp).pi 24077 M (nI j)).pi 24078 M (nI inp)) M u v := by
  unfold scH
  show ((((h.pr 24076 M pp).pi 24041 M u).pi 24040 M v).pi 24077 M (nI j)).pi 24078 M (nI inp) = _
  rw [AH.pi_comm (((h.pr 24076 M pp).pi 24077 M (nI j)).pi 24078 M (nI inp)) u v (Or.inl (by decide)), AH.pi_comm ((h.pr 24076 M pp).pi 24077 M (nI j)) (nI inp) v (Or.inl (by decide)), AH.pi_comm (h.pr 24076 M pp) (nI j) v (Or.inl (by decide)), AH.pi_comm ((((h.pr 24076 M pp).pi 24040 M v).pi 24077 M (nI j))) (nI inp) u (Or.inl (by decide)), AH.pi_comm ((h.pr 24076 M pp).pi 24040 M v) (nI j) u (Or.inl (by decide)), AH.pi_comm (h.pr 24076 M pp) v u (Or.inl (by decide))]
end MUnl3
