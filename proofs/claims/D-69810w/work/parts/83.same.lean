/-! reads through writes; the frame by cells -/
set_option maxRecDepth 100000
section Reads
variable (h : AH) (k a q x n : Nat) (v : Nat) (u : Int32) (w : Int64) (L : List Int32) (LL : List Int64) (LR : List Nat)
theorem AH.kd_pr : (h.pr k a v).kd = h.kd := rfl
theorem AH.r_pr : (h.pr k a v).r q x = if q = k ∧ x = a then v else h.r q x := rfl
theorem AH.i_pr : (h.pr k a v).i = h.i := rfl
theorem AH.l_pr : (h.pr k a v).l = h.l := rfl
theorem AH.ai_pr : (h.pr k a v).ai = h.ai := rfl
theorem AH.al_pr : (h.pr k a v).al = h.al := rfl
theorem AH.ar_pr : (h.pr k a v).ar = h.ar := rfl
theorem AH.z_pr : (h.pr k a v).z = h.z := rfl
theorem AH.s_pr : (h.pr k a v).s = h.s := rfl
theorem AH.kd_pi : (h.pi k a u).kd = h.kd := rfl
theorem AH.r_pi : (h.pi k a u).r = h.r := rfl
theorem AH.i_pi : (h.pi k a u).i q x = if q = k ∧ x = a then u else h.i q x := rfl
theorem AH.l_pi : (h.pi k a u).l = h.l := rfl
theorem AH.ai_pi : (h.pi k a u).ai = h.ai := rfl
theorem AH.al_pi : (h.pi k a u).al = h.al := rfl
theorem AH.ar_pi : (h.pi k a u).ar = h.ar := rfl
theorem AH.z_pi : (h.pi k a u).z = h.z := rfl
theorem AH.s_pi : (h.pi k a u).s = h.s := rfl
theorem AH.kd_pl : (h.pl k a w).kd = h.kd := rfl
theorem AH.r_pl : (h.pl k a w).r = h.r := rfl
theorem AH.i_pl : (h.pl k a w).i = h.i := rfl
theorem AH.l_pl : (h.pl k a w).l q x = if q = k ∧ x = a then w else h.l q x := rfl
theorem AH.ai_pl : (h.pl k a w).ai = h.ai := rfl
theorem AH.al_pl : (h.pl k a w).al = h.al := rfl
theorem AH.ar_pl : (h.pl k a w).ar = h.ar := rfl
theorem AH.z_pl : (h.pl k a w).z = h.z := rfl
theorem AH.s_pl : (h.pl k a w).s = h.s := rfl
theorem AH.kd_wl : (h.wl a LL).kd = h.kd := rfl
theorem AH.r_wl : (h.wl a LL).r = h.r := rfl
theorem AH.i_wl : (h.wl a LL).i = h.i := rfl
theorem AH.l_wl : (h.wl a LL).l = h.l := rfl
theorem AH.ai_wl : (h.wl a LL).ai = h.ai := rfl
theorem AH.al_wl : (h.wl a LL).al x = if x = a then LL else h.al x := rfl
theorem AH.ar_wl : (h.wl a LL).ar = h.ar := rfl
theorem AH.z_wl : (h.wl a LL).z = h.z := rfl
theorem AH.s_wl : (h.wl a LL).s = h.s := rfl
theorem AH.kd_wr : (h.wr a LR).kd = h.kd := rfl
theorem AH.r_wr : (h.wr a LR).r = h.r := rfl
theorem AH.i_wr : (h.wr a LR).i = h.i := rfl
theorem AH.l_wr : (h.wr a LR).l = h.l := rfl
theorem AH.ai_wr : (h.wr a LR).ai = h.ai := rfl
theorem AH.al_wr : (h.wr a LR).al = h.al := rfl
theorem AH.ar_wr : (h.wr a LR).ar x = if x = a then LR else h.ar x := rfl
theorem AH.z_wr : (h.wr a LR).z = h.z := rfl
theorem AH.s_wr : (h.wr a LR).s = h.s := rfl
theorem AH.kd_nw : (h.new k n L LL LR).kd x = if x = h.z then k else h.kd x := rfl
theorem AH.r_nw : (h.new k n L LL LR).r q x = if x = h.z then 0 else h.r q x := rfl
theorem AH.i_nw : (h.new k n L LL LR).i q x = if x = h.z then 0 else h.i q x := rfl
theorem AH.l_nw : (h.new k n L LL LR).l q x = if x = h.z then 0 else h.l q x := rfl
theorem AH.ai_nw : (h.new k n L LL LR).ai x = if x = h.z then L else h.ai x := rfl
theorem AH.al_nw : (h.new k n L LL LR).al x = if x = h.z then LL else h.al x := rfl
theorem AH.ar_nw : (h.new k n L LL LR).ar x = if x = h.z then LR else h.ar x := rfl
theorem AH.z_nw : (h.new k n L LL LR).z = h.z + 1 := rfl
theorem AH.s_nw : (h.new k n L LL LR).s = h.s + n := rfl
end Reads
/-- the cell a is the same in both -/
def eqAt (h h' : AH) (a : Nat) : Prop := h'.kd a = h.kd a ∧ (∀ k, h'.r k a = h.r k a) ∧ (∀ k, h'.i k a = h.i k a) ∧ (∀ k, h'.l k a = h.l k a) ∧ h'.ai a = h.ai a ∧ h'.al a = h.al a ∧ h'.ar a = h.ar a
/-- the kind and the length of the cell a are the same -/
def lnAt (h h' : AH) (a : Nat) : Prop := h'.kd a = h.kd a ∧ (h'.ai a).length = (h.ai a).length ∧ (h'.al a).length = (h.al a).length ∧ (h'.ar a).length = (h.ar a).length
/-- old cells keep kind and length, and are the same but those where P holds -/
def Same (P : Nat → Prop) (h h' : AH) : Prop := h.z ≤ h'.z ∧ (h.s ≤ h'.s ∧ ∀ a, a < h.z → lnAt h h' a) ∧ ∀ a, a < h.z → ¬ P a → eqAt h h' a
def noP : Nat → Prop := fun _ => False
theorem lnAt.rf {h : AH} {a : Nat} : lnAt h h a := ⟨rfl, rfl, rfl, rfl⟩
theorem lnAt.trans {h h1 h2 : AH} {a : Nat} (x : lnAt h h1 a) (y : lnAt h1 h2 a) : lnAt h h2 a := ⟨y.1.trans x.1, y.2.1.trans x.2.1, y.2.2.1.trans x.2.2.1, y.2.2.2.trans x.2.2.2⟩
theorem eqAt.rf {h : AH} {a : Nat} : eqAt h h a := ⟨rfl, fun _ => rfl, fun _ => rfl, fun _ => rfl, rfl, rfl, rfl⟩
theorem eqAt.trans {h h1 h2 : AH} {a : Nat} (x : eqAt h h1 a) (y : eqAt h1 h2 a) : eqAt h h2 a :=
  ⟨y.1.trans x.1, fun k => (y.2.1 k).trans (x.2.1 k), fun k => (y.2.2.1 k).trans (x.2.2.1 k), fun k => (y.2.2.2.1 k).trans (x.2.2.2.1 k), y.2.2.2.2.1.trans x.2.2.2.2.1, y.2.2.2.2.2.1.trans x.2.2.2.2.2.1, y.2.2.2.2.2.2.trans x.2.2.2.2.2.2⟩
theorem eqAt.symm {h h1 : AH} {a : Nat} (x : eqAt h h1 a) : eqAt h1 h a :=
  ⟨x.1.symm, fun k => (x.2.1 k).symm, fun k => (x.2.2.1 k).symm, fun k => (x.2.2.2.1 k).symm, x.2.2.2.2.1.symm, x.2.2.2.2.2.1.symm, x.2.2.2.2.2.2.symm⟩
section SameL
variable {P Q : Nat → Prop} {h h1 h2 : AH} {a : Nat}
theorem Same.rf : Same P h h := ⟨Nat.le_refl _, ⟨Nat.le_refl _, fun _ _ => lnAt.rf⟩, fun _ _ _ => eqAt.rf⟩
theorem Same.mono (S : Same P h h1) (f : ∀ a, a < h.z → P a → Q a) : Same Q h h1 := ⟨S.1, S.2.1, fun a ha hq => S.2.2 a ha (fun p => hq (f a ha p))⟩
theorem Same.trans (S : Same P h h1) (T : Same Q h1 h2) (f : ∀ a, a < h.z → Q a → P a) : Same P h h2 :=
  ⟨Nat.le_trans S.1 T.1, ⟨Nat.le_trans S.2.1.1 T.2.1.1, fun a ha => (S.2.1.2 a ha).trans (T.2.1.2 a (Nat.lt_of_lt_of_le ha S.1))⟩, fun a ha hp => (S.2.2 a ha hp).trans (T.2.2 a (Nat.lt_of_lt_of_le ha S.1) (fun q => hp (f a ha q)))⟩
theorem Same.kd (S : Same P h h1) (ha : a < h.z) : h1.kd a = h.kd a := (S.2.1.2 a ha).1
theorem Same.len (S : Same P h h1) (ha : a < h.z) : (h1.ai a).length = (h.ai a).length := (S.2.1.2 a ha).2.1
theorem Same.lenR (S : Same P h h1) (ha : a < h.z) : (h1.ar a).length = (h.ar a).length := (S.2.1.2 a ha).2.2.2
theorem Same.r (S : Same P h h1) (ha : a < h.z) (hp : ¬ P a) (k : Nat) : h1.r k a = h.r k a := (S.2.2 a ha hp).2.1 k
theorem Same.i (S : Same P h h1) (ha : a < h.z) (hp : ¬ P a) (k : Nat) : h1.i k a = h.i k a := (S.2.2 a ha hp).2.2.1 k
theorem Same.l (S : Same P h h1) (ha : a < h.z) (hp : ¬ P a) (k : Nat) : h1.l k a = h.l k a := (S.2.2 a ha hp).2.2.2.1 k
theorem Same.ai (S : Same P h h1) (ha : a < h.z) (hp : ¬ P a) : h1.ai a = h.ai a := (S.2.2 a ha hp).2.2.2.2.1
theorem Same.al (S : Same P h h1) (ha : a < h.z) (hp : ¬ P a) : h1.al a = h.al a := (S.2.2 a ha hp).2.2.2.2.2.1
theorem Same.ar (S : Same P h h1) (ha : a < h.z) (hp : ¬ P a) : h1.ar a = h.ar a := (S.2.2 a ha hp).2.2.2.2.2.2
theorem Same.step (S : Same P h h1) (hz : h1.z ≤ h2.z) (hs : h1.s ≤ h2.s) (g : ∀ a, a < h.z → lnAt h1 h2 a) (f : ∀ a, a < h.z → ¬ P a → eqAt h1 h2 a) : Same P h h2 :=
  ⟨Nat.le_trans S.1 hz, ⟨Nat.le_trans S.2.1.1 hs, fun a ha => (S.2.1.2 a ha).trans (g a ha)⟩, fun a ha hp => (S.2.2 a ha hp).trans (f a ha hp)⟩
theorem ne_of_old (hp : P a ∨ h.z ≤ a) {x : Nat} (hx : x < h.z) (hnp : ¬ P x) : x ≠ a := by
  intro e
  subst e
  rcases hp with q | q
  · exact hnp q
  · omega
theorem Same.pr (S : Same P h h1) (k v : Nat) (hp : P a ∨ h.z ≤ a) : Same P h (h1.pr k a v) :=
  S.step (Nat.le_refl _) (Nat.le_refl _) (fun _ _ => lnAt.rf) (fun x hx hnp => ⟨rfl, fun q => by rw [AH.r_pr, if_neg (fun e => ne_of_old hp hx hnp e.2)], fun _ => rfl, fun _ => rfl, rfl, rfl, rfl⟩)
theorem Same.pi (S : Same P h h1) (k : Nat) (v : Int32) (hp : P a ∨ h.z ≤ a) : Same P h (h1.pi k a v) :=
  S.step (Nat.le_refl _) (Nat.le_refl _) (fun _ _ => lnAt.rf) (fun x hx hnp => ⟨rfl, fun _ => rfl, fun q => by rw [AH.i_pi, if_neg (fun e => ne_of_old hp hx hnp e.2)], fun _ => rfl, rfl, rfl, rfl⟩)
theorem Same.pl (S : Same P h h1) (k : Nat) (v : Int64) (hp : P a ∨ h.z ≤ a) : Same P h (h1.pl k a v) :=
  S.step (Nat.le_refl _) (Nat.le_refl _) (fun _ _ => lnAt.rf) (fun x hx hnp => ⟨rfl, fun _ => rfl, fun _ => rfl, fun q => by rw [AH.l_pl, if_neg (fun e => ne_of_old hp hx hnp e.2)], rfl, rfl, rfl⟩)
theorem Same.wi (S : Same P h h1) (v : List Int32) (hl : v.length = (h1.ai a).length) (hp : P a ∨ h.z ≤ a) : Same P h (h1.wi a v) :=
  S.step (Nat.le_refl _) (Nat.le_refl _) (fun x _ => ⟨rfl, ln_wi hl, rfl, rfl⟩) (fun x hx hnp => ⟨rfl, fun _ => rfl, fun _ => rfl, fun _ => rfl, by rw [AH.ai_wi, if_neg (ne_of_old hp hx hnp)], rfl, rfl⟩)
theorem Same.wl (S : Same P h h1) (v : List Int64) (hl : v.length = (h1.al a).length) (hp : P a ∨ h.z ≤ a) : Same P h (h1.wl a v) :=
  S.step (Nat.le_refl _) (Nat.le_refl _) (fun x _ => ⟨rfl, rfl, by
    rw [AH.al_wl]
    split
    · rename_i e; rw [e, hl]
    · rfl, rfl⟩) (fun x hx hnp => ⟨rfl, fun _ => rfl, fun _ => rfl, fun _ => rfl, rfl, by rw [AH.al_wl, if_neg (ne_of_old hp hx hnp)], rfl⟩)
theorem Same.wr (S : Same P h h1) (v : List Nat) (hl : v.length = (h1.ar a).length) (hp : P a ∨ h.z ≤ a) : Same P h (h1.wr a v) :=
  S.step (Nat.le_refl _) (Nat.le_refl _) (fun x _ => ⟨rfl, rfl, rfl, by
    rw [AH.ar_wr]
    split
    · rename_i e; rw [e, hl]
    · rfl⟩) (fun x hx hnp => ⟨rfl, fun _ => rfl, fun _ => rfl, fun _ => rfl, rfl, rfl, by rw [AH.ar_wr, if_neg (ne_of_old hp hx hnp)]⟩)
theorem eqAt.ln (x : eqAt h h1 a) : lnAt h h1 a := ⟨x.1, by rw [x.2.2.2.2.1], by rw [x.2.2.2.2.2.1], by rw [x.2.2.2.2.2.2]⟩
theorem eqAt.nw (k n : Nat) (L : List Int32) (LL : List Int64) (LR : List Nat) (e : ¬ a = h1.z) : eqAt h1 (h1.new k n L LL LR) a :=
  ⟨by rw [AH.kd_nw, if_neg e], fun q => by rw [AH.r_nw, if_neg e], fun q => by rw [AH.i_nw, if_neg e], fun q => by rw [AH.l_nw, if_neg e], by rw [AH.ai_nw, if_neg e], by rw [AH.al_nw, if_neg e], by rw [AH.ar_nw, if_neg e]⟩
theorem Same.new (S : Same P h h1) (k n : Nat) (L : List Int32) (LL : List Int64) (LR : List Nat) : Same P h (h1.new k n L LL LR) := by
  have hz := S.1
  exact S.step (by rw [AH.z_nw]; omega) (by rw [AH.s_nw]; omega) (fun x hx => (eqAt.nw k n L LL LR (by omega)).ln) (fun x hx _ => eqAt.nw k n L LL LR (by omega))
theorem Same.mod (S : Same P h h1) (M : Mod Q h1 h2) (hq : ∀ x, x < h.z → Q x → P x) : Same P h h2 := by
  refine S.step (by rw [M.z]; omega) (by rw [M.s]; omega) (fun x hx => ⟨by rw [M.kd], M.len x, by rw [M.al], by rw [M.ar]⟩) (fun x hx hnp => ⟨by rw [M.kd], fun _ => by rw [M.r], fun _ => by rw [M.i], fun _ => by rw [M.l], M.ai (fun q => hnp (hq x hx q)), by rw [M.al], by rw [M.ar]⟩)
theorem Same.exH {G : Gx} (S : Same P h h1) (k : Nat) (hp : P a ∨ h.z ≤ a) : Same P h (exH G k a h1) := (((S.pr _ _ hp).pr _ _ hp).pr _ _ hp).pr _ _ hp
end SameL
theorem exH_kd (G : Gx) (k a : Nat) (h : AH) : (exH G k a h).kd = h.kd := rfl
theorem exH_z (G : Gx) (k a : Nat) (h : AH) : (exH G k a h).z = h.z := rfl
theorem exH_s (G : Gx) (k a : Nat) (h : AH) : (exH G k a h).s = h.s := rfl
theorem exH_i (G : Gx) (k a : Nat) (h : AH) : (exH G k a h).i = h.i := rfl
/-- an exception of a kind is thrown: what is old is the same but where P holds; at most c cells of m slots are new -/
def Thr (e : Nat) (P : Nat → Prop) (c m : Nat) (h h' : AH) (x : Nat) : Prop := h'.kd x = e ∧ Same P h h' ∧ h'.z ≤ h.z + c ∧ h'.s ≤ h.s + m
theorem Thr.mono {e c m c' m' x : Nat} {P Q : Nat → Prop} {h h' : AH} (T : Thr e P c m h h' x) (f : ∀ a, a < h.z → P a → Q a) (hc : c ≤ c') (hm : m ≤ m') : Thr e Q c' m' h h' x :=
  ⟨T.1, T.2.1.mono f, by have := T.2.2.1; omega, by have := T.2.2.2; omega⟩
/-- behind a run that leaves P -/
theorem Thr.aft {e c m c' m' x : Nat} {P Q : Nat → Prop} {h h1 h' : AH} (S : Same P h h1) (hz : h1.z + c ≤ h.z + c') (hs : h1.s + m ≤ h.s + m') (T : Thr e Q c m h1 h' x) (f : ∀ a, a < h.z → Q a → P a) : Thr e P c' m' h h' x :=
  ⟨T.1, S.trans T.2.1 f, by have := T.2.2.1; omega, by have := T.2.2.2; omega⟩
/-- a new exception -/
theorem Thr.nw {G : Gx} {P : Nat → Prop} {h h1 h2 : AH} {x k : Nat} (S : Same P h h1) (hx : x = h1.z) (e2 : h2 = h1.new k 6 [] [] []) {c m : Nat} (hz : h1.z + 1 ≤ h.z + c) (hs : h1.s + 6 ≤ h.s + m) {h3 : AH} (e3 : h3 = exH G k x h2) : Thr k P c m h h3 x := by
  subst hx; subst e2; subst e3
  refine ⟨?_, (S.new _ _ _ _ _).exH k (Or.inr S.1), by rw [exH_z, AH.z_nw]; exact hz, by rw [exH_s, AH.s_nw]; exact hs⟩
  rw [exH_kd, AH.kd_nw, if_pos rfl]
/-- only other keys of the object M keep their values -/
def Kp (ks : List Nat) (M : Nat) (h h' : AH) : Prop := ∀ k, k ∉ ks → h'.r k M = h.r k M ∧ h'.i k M = h.i k M ∧ h'.l k M = h.l k M
theorem Kp.rf {ks : List Nat} {M : Nat} {h : AH} : Kp ks M h h := fun _ _ => ⟨rfl, rfl, rfl⟩
theorem Kp.trans {ks ks' : List Nat} {M : Nat} {h h1 h2 : AH} (a : Kp ks M h h1) (b : Kp ks' M h1 h2) (f : ∀ k, k ∈ ks' → k ∈ ks) : Kp ks M h h2 := fun k hk => by
  have x := a k hk
  have y := b k (fun q => hk (f k q))
  exact ⟨y.1.trans x.1, y.2.1.trans x.2.1, y.2.2.trans x.2.2⟩
theorem Kp.eq {ks : List Nat} {M : Nat} {h h' : AH} (e : eqAt h h' M) : Kp ks M h h' := fun k _ => ⟨e.2.1 k, e.2.2.1 k, e.2.2.2.1 k⟩
theorem Kp.pi {ks : List Nat} {M q : Nat} {h h1 : AH} (a : Kp ks M h h1) (k : Nat) (v : Int32) (hk : k ∈ ks ∨ M ≠ q) : Kp ks M h (h1.pi k q v) := fun j hj => by
  have x := a j hj
  refine ⟨x.1, ?_, x.2.2⟩
  rw [AH.i_pi, if_neg (fun e => by
    rcases hk with p | p
    · exact hj (e.1 ▸ p)
    · exact p e.2)]
  exact x.2.1
theorem Kp.pr {ks : List Nat} {M q : Nat} {h h1 : AH} (a : Kp ks M h h1) (k v : Nat) (hk : k ∈ ks ∨ M ≠ q) : Kp ks M h (h1.pr k q v) := fun j hj => by
  have x := a j hj
  refine ⟨?_, x.2⟩
  rw [AH.r_pr, if_neg (fun e => by
    rcases hk with p | p
    · exact hj (e.1 ▸ p)
    · exact p e.2)]
  exact x.1
theorem Kp.pl {ks : List Nat} {M q : Nat} {h h1 : AH} (a : Kp ks M h h1) (k : Nat) (v : Int64) (hk : k ∈ ks ∨ M ≠ q) : Kp ks M h (h1.pl k q v) := fun j hj => by
  have x := a j hj
  refine ⟨x.1, x.2.1, ?_⟩
  rw [AH.l_pl, if_neg (fun e => by
    rcases hk with p | p
    · exact hj (e.1 ▸ p)
    · exact p e.2)]
  exact x.2.2
theorem Kp.si {ks : List Nat} {M : Nat} {h h1 : AH} (a : Kp ks M h h1) (f : Nat → List Int32) : Kp ks M h (h1.si f) := a
theorem Kp.wi {ks : List Nat} {M q : Nat} {h h1 : AH} (a : Kp ks M h h1) (v : List Int32) : Kp ks M h (h1.wi q v) := a
