/-! abstract values, the abstract heap, its tie to the machine's heap -/
set_option maxRecDepth 100000
abbrev AV : Type := Int32 ⊕ (Int64 ⊕ (Nat ⊕ Unit))
abbrev vI (x : Int32) : AV := Sum.inl x
abbrev vJ (x : Int64) : AV := Sum.inr (Sum.inl x)
abbrev vR (r : Nat) : AV := Sum.inr (Sum.inr (Sum.inl r))
abbrev vU : AV := Sum.inr (Sum.inr (Sum.inr ()))
def vr (r : Nat) : Value := match r with
  | 0 => .null
  | n + 1 => .ref (n + 1)
def cv (v : AV) : Value := match v with
  | .inl x => .int x
  | .inr (.inl x) => .long x
  | .inr (.inr (.inl r)) => vr r
  | .inr (.inr (.inr _)) => .null
def ct (v : AV) : Nat := match v with
  | .inr (.inl _) => 2
  | _ => 1
theorem vr_pos {r : Nat} (h : r ≠ 0) : vr r = .ref r := by
  cases r with
  | zero => exact absurd rfl h
  | succ n => rfl
theorem vr_cat (r : Nat) : (vr r).category = 1 := by cases r <;> rfl
theorem ct_cv (v : AV) : (cv v).category = ct v := by
  match v with
  | .inl x => rfl
  | .inr (.inl x) => rfl
  | .inr (.inr (.inl r)) => exact vr_cat r
  | .inr (.inr (.inr _)) => rfl
/-- locals: what is listed and is no vU is there -/
def LV (ls : Array Slot) (n : Nat) (lv : List AV) : Prop := ls.size = n ∧ lv_wf ls ∧ ∀ (k : Nat) (v : AV), lv[k]? = some v → v ≠ vU → ls[k]? = some (.val (cv v))
def unL (lv : List AV) (i : Nat) : List AV := match i with
  | 0 => lv
  | j + 1 => match lv[j]? with
    | some (.inr (.inl _)) => lv.set j vU
    | _ => lv
def lset1 (lv : List AV) (i : Nat) (v : AV) : List AV := (unL lv i).set i v
def lset2 (lv : List AV) (i : Nat) (v : AV) : List AV := ((unL lv i).set i v).set (i + 1) vU
def lmask : List Bool → List AV → List AV
  | true :: m, v :: t => v :: lmask m t
  | false :: m, _ :: t => vU :: lmask m t
  | _, t => t
theorem lmask_get : ∀ (m : List Bool) (lv : List AV) (k : Nat) (v : AV), (lmask m lv)[k]? = some v → v ≠ vU → lv[k]? = some v
  | [], lv, k, v => by intro h _; simpa [lmask] using h
  | b :: m, [], k, v => by intro h _; cases b <;> simpa [lmask] using h
  | true :: m, w :: t, 0, v => by intro h _; simpa [lmask] using h
  | false :: m, w :: t, 0, v => by intro h hn; simp [lmask] at h; exact absurd h.symm hn
  | true :: m, w :: t, k + 1, v => by intro h hn; simp only [lmask, List.getElem?_cons_succ] at h ⊢; exact lmask_get m t k v h hn
  | false :: m, w :: t, k + 1, v => by intro h hn; simp only [lmask, List.getElem?_cons_succ] at h ⊢; exact lmask_get m t k v h hn
theorem LV.mask {ls : Array Slot} {n : Nat} {lv : List AV} (h : LV ls n lv) (m : List Bool) : LV ls n (lmask m lv) :=
  ⟨h.1, h.2.1, fun k v hk hn => h.2.2 k v (lmask_get m lv k v hk hn) hn⟩
theorem unL_get {lv : List AV} {i k : Nat} {v : AV} (h : (unL lv i)[k]? = some v) (hn : v ≠ vU) : lv[k]? = some v ∧ ¬ (k + 1 = i ∧ ct v = 2) := by
  cases i with
  | zero => exact ⟨h, fun q => by omega⟩
  | succ j =>
    unfold unL at h
    dsimp only at h
    split at h
    · rename_i y hj
      by_cases e : k = j
      · subst e
        rw [List.getElem?_set] at h
        split at h
        · split at h
          · cases h; exact absurd rfl hn
          · cases h
        · rename_i q; exact absurd rfl q
      · rw [List.getElem?_set_ne (fun q => e q.symm)] at h
        exact ⟨h, fun q => e (by omega)⟩
    · rename_i hj
      refine ⟨h, fun q => ?_⟩
      have e : k = j := by omega
      subst e
      match v, h, q, hj with
      | .inl x, _, q, _ => simp [ct] at q
      | .inr (.inl x), h, _, hj => exact hj x h
      | .inr (.inr (.inl r)), _, q, _ => simp [ct] at q
      | .inr (.inr (.inr _)), _, q, _ => simp [ct] at q
theorem LV.st1 {ls : Array Slot} {n : Nat} {lv : List AV} {i : Nat} {v : AV} (h : LV ls n lv) (hi : i < n) (hc : ct v = 1) : ∃ ls', storeLocals ls i (cv v) = some ls' ∧ LV ls' n (lset1 lv i v) := by
  have hcat : (cv v).category = 1 := by rw [ct_cv]; exact hc
  obtain ⟨ls', e, h0⟩ := lv_store1 (l := []) (v := cv v) (⟨h.1, h.2.1, fun q hq => by cases hq⟩ : lv_has ls n []) hi hcat
  refine ⟨ls', e, h0.1, h0.2.1, fun k w hk hn => ?_⟩
  by_cases ek : k = i
  · subst ek
    unfold lset1 at hk
    rw [List.getElem?_set] at hk
    split at hk
    · split at hk
      · cases hk
        exact h0.2.2 (k, cv v) List.mem_cons_self
      · cases hk
    · rename_i q; exact absurd rfl q
  · unfold lset1 at hk
    rw [List.getElem?_set_ne (fun q => ek q.symm)] at hk
    obtain ⟨h1, h2⟩ := unL_get hk hn
    obtain ⟨ls2, e2, h3⟩ := lv_store1 (l := [(k, cv w)]) (v := cv v) (⟨h.1, h.2.1, fun q hq => by
      rw [List.mem_singleton.mp hq]; exact h.2.2 k w h1 hn⟩ : lv_has ls n [(k, cv w)]) hi hcat
    cases e.symm.trans e2
    refine h3.2.2 (k, cv w) (List.mem_cons_of_mem _ (List.mem_filter.mpr ⟨List.mem_singleton.mpr rfl, ?_⟩))
    have hb : ¬ (k + 1 = i ∧ (cv w).category = 2) := by rw [ct_cv]; exact h2
    simp only [Bool.and_eq_true, Bool.not_eq_true', beq_eq_false_iff_ne, ne_eq, Bool.and_eq_false_iff]
    refine ⟨ek, ?_⟩
    by_cases q : k + 1 = i
    · exact Or.inr fun z => hb ⟨q, z⟩
    · exact Or.inl q
theorem LV.st2 {ls : Array Slot} {n : Nat} {lv : List AV} {i : Nat} {v : AV} (h : LV ls n lv) (hi : i + 1 < n) (hc : ct v = 2) : ∃ ls', storeLocals ls i (cv v) = some ls' ∧ LV ls' n (lset2 lv i v) := by
  have hcat : (cv v).category = 2 := by rw [ct_cv]; exact hc
  obtain ⟨ls', e, h0⟩ := lv_store2 (l := []) (v := cv v) (⟨h.1, h.2.1, fun q hq => by cases hq⟩ : lv_has ls n []) hi hcat
  refine ⟨ls', e, h0.1, h0.2.1, fun k w hk hn => ?_⟩
  unfold lset2 at hk
  by_cases e1 : k = i + 1
  · subst e1
    rw [List.getElem?_set] at hk
    split at hk
    · split at hk
      · cases hk; exact absurd rfl hn
      · cases hk
    · rename_i q; exact absurd rfl q
  rw [List.getElem?_set_ne (fun q => e1 q.symm)] at hk
  by_cases ek : k = i
  · subst ek
    rw [List.getElem?_set] at hk
    split at hk
    · split at hk
      · cases hk
        exact h0.2.2 (k, cv v) List.mem_cons_self
      · cases hk
    · rename_i q; exact absurd rfl q
  · rw [List.getElem?_set_ne (fun q => ek q.symm)] at hk
    obtain ⟨h1, h2⟩ := unL_get hk hn
    obtain ⟨ls2, e2, h3⟩ := lv_store2 (l := [(k, cv w)]) (v := cv v) (⟨h.1, h.2.1, fun q hq => by
      rw [List.mem_singleton.mp hq]; exact h.2.2 k w h1 hn⟩ : lv_has ls n [(k, cv w)]) hi hcat
    cases e.symm.trans e2
    refine h3.2.2 (k, cv w) (List.mem_cons_of_mem _ (List.mem_filter.mpr ⟨List.mem_singleton.mpr rfl, ?_⟩))
    have hb : ¬ (k + 1 = i ∧ (cv w).category = 2) := by rw [ct_cv]; exact h2
    simp only [Bool.and_eq_true, Bool.not_eq_true', beq_eq_false_iff_ne, ne_eq, Bool.and_eq_false_iff]
    refine ⟨ek, e1, ?_⟩
    by_cases q : k + 1 = i
    · exact Or.inr fun z => hb ⟨q, z⟩
    · exact Or.inl q
/-! the abstract heap: kd: the kind of a cell (0: none); r i l: fields by their key (1000 * kind + place); ai al ar: the contents of arrays; z: cells; s: slots made so far -/
def AH : Type := (Nat → Nat) × (Nat → Nat → Nat) × (Nat → Nat → Int32) × (Nat → Nat → Int64) × (Nat → List Int32) × (Nat → List Int64) × (Nat → List Nat) × Nat × Nat
def AH.kd (h : AH) : Nat → Nat := h.1
def AH.r (h : AH) : Nat → Nat → Nat := h.2.1
def AH.i (h : AH) : Nat → Nat → Int32 := h.2.2.1
def AH.l (h : AH) : Nat → Nat → Int64 := h.2.2.2.1
def AH.ai (h : AH) : Nat → List Int32 := h.2.2.2.2.1
def AH.al (h : AH) : Nat → List Int64 := h.2.2.2.2.2.1
def AH.ar (h : AH) : Nat → List Nat := h.2.2.2.2.2.2.1
def AH.z (h : AH) : Nat := h.2.2.2.2.2.2.2.1
def AH.s (h : AH) : Nat := h.2.2.2.2.2.2.2.2
def AH.mk (kd : Nat → Nat) (r : Nat → Nat → Nat) (i : Nat → Nat → Int32) (l : Nat → Nat → Int64) (ai : Nat → List Int32) (al : Nat → List Int64) (ar : Nat → List Nat) (z s : Nat) : AH := (kd, r, i, l, ai, al, ar, z, s)
def up1 {α : Type} (f : Nat → α) (a : Nat) (v : α) : Nat → α := fun x => if x = a then v else f x
def up2 {α : Type} (f : Nat → Nat → α) (k a : Nat) (v : α) : Nat → Nat → α := fun k' x => if k' = k ∧ x = a then v else f k' x
def AH.pr (h : AH) (k a v : Nat) : AH := AH.mk h.kd (up2 h.r k a v) h.i h.l h.ai h.al h.ar h.z h.s
def AH.pi (h : AH) (k a : Nat) (v : Int32) : AH := AH.mk h.kd h.r (up2 h.i k a v) h.l h.ai h.al h.ar h.z h.s
def AH.pl (h : AH) (k a : Nat) (v : Int64) : AH := AH.mk h.kd h.r h.i (up2 h.l k a v) h.ai h.al h.ar h.z h.s
def AH.wi (h : AH) (a : Nat) (v : List Int32) : AH := AH.mk h.kd h.r h.i h.l (up1 h.ai a v) h.al h.ar h.z h.s
def AH.wl (h : AH) (a : Nat) (v : List Int64) : AH := AH.mk h.kd h.r h.i h.l h.ai (up1 h.al a v) h.ar h.z h.s
def AH.wr (h : AH) (a : Nat) (v : List Nat) : AH := AH.mk h.kd h.r h.i h.l h.ai h.al (up1 h.ar a v) h.z h.s
/-- a new cell of a kind, with n slots: at h.z, all at their defaults -/
def AH.new (h : AH) (k n : Nat) (ai : List Int32) (al : List Int64) (ar : List Nat) : AH :=
  AH.mk (up1 h.kd h.z k) (fun q x => if x = h.z then 0 else h.r q x) (fun q x => if x = h.z then 0 else h.i q x) (fun q x => if x = h.z then 0 else h.l q x) (up1 h.ai h.z ai) (up1 h.al h.z al) (up1 h.ar h.z ar) (h.z + 1) (h.s + n)
def tg (d : String) : Nat := if d = "J" then 1 else if d = "I" ∨ d = "Z" ∨ d = "B" ∨ d = "C" ∨ d = "S" then 0 else 2
def fv (h : AH) (T : u_T) (k j a : Nat) : Value := if tg (T j).2.2.1 = 0 then .int (h.i (1000 * k + j) a) else if tg (T j).2.2.1 = 1 then .long (h.l (1000 * k + j) a) else vr (h.r (1000 * k + j) a)
/-- element types of array kinds -/
def aty (k : Nat) : FieldType := match k with
  | 100 => .int
  | 101 => .byte
  | 102 => .boolean
  | 103 => .long
  | 104 => .object "CoinJudge$Element"
  | 105 => .object "CoinJudge$Coin"
  | 106 => .object "CoinJudge$Block"
  | 107 => .object "CoinJudge$DraftTx"
  | 108 => .object "CoinJudge$DraftInput"
  | 109 => .object "CoinJudge$DraftOutput"
  | 110 => .object "CoinJudge$Tx"
  | 111 => .object "CoinJudge$Input"
  | 112 => .object "CoinJudge$Output"
  | 113 => .object "java/lang/Object"
  | 114 => .object "CoinJudgeModel$Block"
  | _ => .array .byte
/-- l; class numbers and field slots; numbers of array classes by kind; the heap at the start; numbers of what is read of it -/
abbrev Gx : Type := Launch × va_G × (Nat → ClassId) × Heap × (Nat → Nat)
abbrev gB (G : Gx) : Nat := G.2.2.2.1.size
def alen (h : AH) (a : Nat) : Nat := if h.kd a < 103 then (h.ai a).length else if h.kd a = 103 then (h.al a).length else (h.ar a).length
def aval (h : AH) (a : Nat) : Nat → Value := fun j => if h.kd a < 103 then .int ((h.ai a).getD j 0) else if h.kd a = 103 then .long ((h.al a).getD j 0) else vr ((h.ar a).getD j 0)
/-- a string is only read -/
def exK (k : Nat) : Bool := k == 35
def vmOk (k : Nat) (c : Cell) : Prop := (c.vm = .none ∧ c.monitor.owner = none ∧ c.monitor.count = 0) ∨ (exK k = true ∧ c.vm.isStatics = false ∧ c.vm ≠ .unknown)
/-- what is only read: an empty row of objects (116), a constant of the enum (117: its ordinal o), a row of bytes (119) -/
def RoOk (G : Gx) (k a : Nat) (o : Int32) (bs : List Int32) : Prop :=
  (k = 116 → ∃ cell : Cell, G.2.2.2.1[a]? = some cell ∧ cell.cls = G.2.2.1 113 ∧ cell.slots.size = 0 ∧ (∀ q, cell.vm ≠ .statics q) ∧ cell.vm ≠ .unknown) ∧
  (k = 117 → ∃ cell : Cell, G.2.2.2.1[a]? = some cell ∧ cell.cls = G.2.2.2.2 0 ∧ cell.vm.isStatics = false ∧ cell.vm ≠ .unknown ∧ cell.slots[G.2.2.2.2 1]? = some (.int o)) ∧
  (k = 119 → ∃ cell : Cell, G.2.2.2.1[a]? = some cell ∧ cell.cls = G.2.2.1 101 ∧ cell.slots.size = bs.length ∧ (∀ q, cell.vm ≠ .statics q) ∧ cell.vm ≠ .unknown ∧ ∀ j, j < bs.length → cell.slots[j]? = some (.int (bs.getD j 0)))
def ObjAt (G : Gx) (h : AH) (a : Nat) (H : Heap) : Prop :=
  (h.kd a < 100 → ∃ (C : String) (T : u_T) (N : Nat), kcl[h.kd a]? = some (C, T, N) ∧ ∃ cell : Cell, H[a]? = some cell ∧ cell.cls = G.2.1.1 (h.kd a) ∧ vmOk (h.kd a) cell ∧ ∀ j, j < N → cell.slots[G.2.1.2 (h.kd a) j]? = some (fv h T (h.kd a) j a)) ∧
  (100 ≤ h.kd a → h.kd a < 116 → H[a]? = some (arrV (G.2.2.1 (h.kd a)) (alen h a) (aval h a))) ∧ (116 ≤ h.kd a → a < gB G ∧ RoOk G (h.kd a) a (h.i 117000 a) (h.ai a))
def Rel (G : Gx) (h : AH) (H : Heap) : Prop := H.size = h.z ∧ (∀ q, q < gB G → H[q]? = G.2.2.2.1[q]?) ∧ ∀ a, h.kd a ≠ 0 → ObjAt G h a H
def WF (G : Gx) (h : AH) : Prop := 0 < gB G ∧ gB G ≤ h.z ∧ (∀ a, h.kd a ≠ 0 → (h.kd a < 116 ∧ h.kd a ≠ 35 → gB G ≤ a) ∧ (a < h.z ∧ 0 < a)) ∧ (∀ a, h.kd a = 101 → ∀ x ∈ h.ai a, x.toInt8.toInt32 = x) ∧ ∀ a, h.kd a = 102 → ∀ x ∈ h.ai a, x = 0 ∨ x = 1
theorem WF.ne {G : Gx} {h : AH} (w : WF G h) {a k : Nat} (e : h.kd a = k) (hk : k ≠ 0) : a ≠ 0 := by
  have := (w.2.2.1 a (by rw [e]; exact hk)).2.2
  omega
/-- what a run may change: z and s grow; kinds and lengths stay; fields with keys outside fp stay, but of t (an object being made); arrays of a kind K with 100000 + K outside fp stay -/
def Ext (fp : List Nat) (t : Nat) (h h' : AH) : Prop := h.z ≤ h'.z ∧ h.s ≤ h'.s ∧ ∀ a, h.kd a ≠ 0 → h'.kd a = h.kd a ∧ (h'.ai a).length = (h.ai a).length ∧ (h'.al a).length = (h.al a).length ∧ (h'.ar a).length = (h.ar a).length ∧
  (a ≠ t → ∀ k, k ∉ fp → h'.i k a = h.i k a ∧ h'.l k a = h.l k a ∧ h'.r k a = h.r k a) ∧ (100000 + h.kd a ∉ fp → h'.ai a = h.ai a ∧ h'.al a = h.al a ∧ h'.ar a = h.ar a)
theorem Ext.rf {fp : List Nat} {t : Nat} {h : AH} : Ext fp t h h := ⟨Nat.le_refl _, Nat.le_refl _, fun _ _ => ⟨rfl, rfl, rfl, rfl, fun _ _ _ => ⟨rfl, rfl, rfl⟩, fun _ => ⟨rfl, rfl, rfl⟩⟩⟩
/-- behind a step of a wider kind: its own object is t, or is none of the first heap's -/
theorem Ext.trans {fp fp' : List Nat} {t t' : Nat} {h h1 h2 : AH} (a : Ext fp t h h1) (b : Ext fp' t' h1 h2) (hs : ∀ k, k ∈ fp' → k ∈ fp) (ht : t' = t ∨ h.kd t' = 0) : Ext fp t h h2 := by
  refine ⟨Nat.le_trans a.1 b.1, Nat.le_trans a.2.1 b.2.1, fun x hx => ?_⟩
  obtain ⟨a1, a2, a3, a4, a5, a6⟩ := a.2.2 x hx
  obtain ⟨b1, b2, b3, b4, b5, b6⟩ := b.2.2 x (by rw [a1]; exact hx)
  refine ⟨b1.trans a1, b2.trans a2, b3.trans a3, b4.trans a4, fun hn k hk => ?_, fun hk => ?_⟩
  · obtain ⟨c1, c2, c3⟩ := a5 hn k hk
    obtain ⟨d1, d2, d3⟩ := b5 (fun e => by
      rcases ht with q | q
      · exact hn (e.trans q)
      · rw [← e] at q; exact hx q) k (fun q => hk (hs k q))
    exact ⟨d1.trans c1, d2.trans c2, d3.trans c3⟩
  · obtain ⟨c1, c2, c3⟩ := a6 hk
    obtain ⟨d1, d2, d3⟩ := b6 (fun q => hk (by rw [a1] at q; exact hs _ q))
    exact ⟨d1.trans c1, d2.trans c2, d3.trans c3⟩
