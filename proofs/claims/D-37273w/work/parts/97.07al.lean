set_option maxRecDepth 100000
/-! ARRAYLIST -/
theorem g_shr1 {x : Int} (h : inR x) : gbin 6 x 1 = some (x / 2) := by
  have e : ((Int32.ofInt x) >>> (Int32.ofInt 1 &&& 31)).toInt = (Int32.ofInt x).toInt >>> ((Int32.ofInt 1 &&& 31).toBitVec.smod 32).toNat := BitVec.toInt_sshiftRight'
  show some ((Int32.ofInt x) >>> (Int32.ofInt 1 &&& 31)).toInt = _
  rw [e, g_o32 h, show ((Int32.ofInt 1 &&& 31).toBitVec.smod 32).toNat = 1 by decide, Int.shiftRight_eq_div_pow]
  rfl
theorem gokO.kp {g g' : GH} {S : Nat → Prop} {c : Nat} (h : Kp g g' S c) (hW : GWf g) {r : Option Nat} (hr : gokO g r = true) : gokO g' r = true := by
  cases r with
  | none => rfl
  | some n =>
    have h1 : 1 ≤ gcls g n ∧ gcls g n < 100 := of_decide_eq_true hr
    have h2 := (h.2.2.2.1 n (hW.lt (by omega))).1
    exact decide_eq_true (by rw [h2]; exact h1)
theorem gput_O {g : GH} {r : Option Nat} (h : gokO g r = true) : gput g 104 r := by
  cases r with
  | none => exact Or.inl ⟨rfl, by decide⟩
  | some n =>
    have h1 : 1 ≤ gcls g n ∧ gcls g n < 100 := of_decide_eq_true h
    refine Or.inr (Or.inl ?_)
    show (((104 : Nat) == 104 && decide (1 ≤ gcls g n ∧ gcls g n < 100)) || _ || _) = true
    rw [decide_eq_true h1]; rfl
theorem gokO.gok {g : GH} {r : Option Nat} (h : gokO g r = true) : gok g r = true := by
  cases r with
  | none => rfl
  | some n =>
    have h1 : 1 ≤ gcls g n ∧ gcls g n < 100 := of_decide_eq_true h
    exact decide_eq_true (by omega)
/-- an array of references that begins with xs -/
def RIs (g : GH) (a : Nat) (xs : List (Option Nat)) (cap : Nat) : Prop := glen g a = cap ∧ xs.length ≤ cap ∧ (∀ j, j < xs.length → gar g a j = xs.getD j none) ∧ ∀ j, gokO g (gar g a j) = true
def ALs (g : GH) (n : Nat) (xs : List (Option Nat)) (a cap : Nat) : Prop := GAt g n 16 ∧ gfi g 104 n = xs.length ∧ gfr g 103 n = some a ∧ (GAt g a 104 ∧ 10 ≤ cap ∨ a = 330 ∧ cap = 0) ∧ RIs g a xs cap
def AlS (n a : Nat) : Nat → Prop := fun k => k = n ∨ (k = a ∧ 1000 ≤ k)
def AlQ (g g' : GH) (n a cap : Nat) (xs' : List (Option Nat)) (m : Nat) : Prop := ∃ a' cap', Kp g g' (AlS n a) (6 * (cap' - cap)) ∧ ALs g' n xs' a' cap' ∧ (a' = a ∨ gsz g ≤ a') ∧ a' < gsz g' ∧ cap ≤ cap' ∧ (cap' = cap ∨ cap' ≤ 2 * xs'.length + 10) ∧ gfi g' 102 n = gfi g 102 n + m
theorem RIs.kp {g g' : GH} {S : Nat → Prop} {c a cap : Nat} {xs : List (Option Nat)} (h : RIs g a xs cap) (hK : Kp g g' S c) (hW : GWf g) (k : SameC g g' a) : RIs g' a xs cap := ⟨k.2.1.trans h.1, h.2.1, fun j hj => (k.2.2.2.2.2 j).trans (h.2.2.1 j hj), fun j => by rw [k.2.2.2.2.2 j]; exact gokO.kp hK hW (h.2.2.2 j)⟩
theorem ALs.kp {g g' : GH} {S : Nat → Prop} {c n a cap : Nat} {xs : List (Option Nat)} (h : ALs g n xs a cap) (hK : Kp g g' S c) (hW : GWf g) (k : SameC g g' n) (k2 : SameC g g' a) : ALs g' n xs a cap := ⟨⟨k.1.trans h.1.1, h.1.2⟩, (k.2.2.1 104).trans h.2.1, (k.2.2.2.1 103).trans h.2.2.1, by rcases h.2.2.2.1 with z | z; exact Or.inl ⟨⟨k2.1.trans z.1.1, z.1.2⟩, z.2⟩; exact Or.inr z, h.2.2.2.2.kp hK hW k2⟩
theorem RIs.get {g : GH} {a cap : Nat} {xs : List (Option Nat)} (h : RIs g a xs cap) {j : Nat} (hj : j < xs.length) : gokO g (xs.getD j none) = true := by
  rw [← h.2.2.1 j hj]; exact h.2.2.2 j
theorem ALs.at {g : GH} {n a cap : Nat} {xs : List (Option Nat)} (h : ALs g n xs a cap) : GAt g n 16 := h.1
section Al
variable {d : Nat} {g : GH} {n a cap : Nat} {xs : List (Option Nat)}
theorem ALs.lt (h : ALs g n xs a cap) (hW : GWf g) : n < gsz g ∧ a < gsz g ∧ cap < 65536 ∧ n ≠ a ∧ gcls g a = 104 := by
  obtain ⟨h1, h2, h3, h4, h5⟩ := h
  have hc := hW.2.2.2.2 a
  rw [h5.1] at hc
  have ha : gcls g a = 104 := by
    rcases h4 with z | z
    · exact z.1.1
    · rw [z.1, (hW.1 330 (by decide)).1]; rfl
  exact ⟨hW.lt (by rw [h1.1]; decide), hW.lt (by rw [ha]; decide), hc, (fun z => by have := h1.1; rw [z, ha] at this; cases this), ha⟩
theorem RIs.set {v : Option Nat} (h : RIs g a xs cap) (hv : gokO g v = true) {i : Nat} (hi : i < xs.length) : RIs (gsar g a i v) a (xs.set i v) cap := by
  refine ⟨h.1, by rw [List.length_set]; exact h.2.1, fun j hj => ?_, fun j => ?_⟩
  · rw [List.length_set] at hj
    rw [gar_at, List.getD_eq_getElem?_getD, List.getElem?_set]
    by_cases hji : j = i
    · subst hji; rw [if_pos rfl, if_pos rfl, if_pos hi]; rfl
    · rw [if_neg hji, if_neg (fun z => hji z.symm), h.2.2.1 j hj, List.getD_eq_getElem?_getD]
  · show gokO g (gar (gsar g a i v) a j) = true
    rw [gar_at]
    split
    · exact hv
    · exact h.2.2.2 j
theorem RIs.snoc {v : Option Nat} (h : RIs g a xs cap) (hv : gokO g v = true) (hl : xs.length < cap) : RIs (gsar g a xs.length v) a (xs ++ [v]) cap := by
  refine ⟨h.1, by rw [List.length_append]; show xs.length + 1 ≤ _; omega, fun j hj => ?_, fun j => ?_⟩
  · rw [List.length_append] at hj
    have hj : j < xs.length + 1 := hj
    rw [gar_at]
    by_cases hjs : j = xs.length
    · subst hjs
      rw [if_pos rfl, List.getD_eq_getElem?_getD, List.getElem?_append_right (Nat.le_refl _), Nat.sub_self]; rfl
    · rw [if_neg hjs, h.2.2.1 j (by omega), List.getD_eq_getElem?_getD, List.getD_eq_getElem?_getD, List.getElem?_append_left (by omega)]
  · show gokO g (gar (gsar g a xs.length v) a j) = true
    rw [gar_at]
    split
    · exact hv
    · exact h.2.2.2 j
theorem RIs.pre {ys : List (Option Nat)} (h : RIs g a xs cap) (hl : ys.length ≤ xs.length) (hy : ∀ j, j < ys.length → ys.getD j none = xs.getD j none) : RIs g a ys cap := ⟨h.1, Nat.le_trans hl h.2.1, fun j hj => (h.2.2.1 j (by omega)).trans (hy j hj).symm, h.2.2.2⟩
/-- new, empty -/
theorem G_j0 (h : GAt g n 18 ∨ GAt g n 16 ∨ GAt g n 15) : GE (d + 1) gk_J0_init [aR n] g none := by
  have hn : 1000 ≤ n := by rcases h with h | h | h <;> exact h.2
  refine GM.of rfl rfl rfl ?_
  (repeat (refine GW.pl rfl rfl ?_))
  refine GW.oini rfl hn (Nat.le_of_ble_eq_true rfl) ?_
  exact GW.ret rfl rfl ⟨_, rfl, rfl, rfl⟩
theorem G_j1 {c : Nat} (h : GAt g n c) (hc : c = 18 ∨ c = 16) : GMr (d + 2) gk_J1_init [aR n] g (fun r g' => r = none ∧ g' = gsfi g 102 n 0) := by
  refine GM.of rfl rfl rfl ?_
  (repeat (refine GW.pl rfl rfl ?_))
  refine GW.c1 rfl rfl (by first | exact Or.inl rfl | exact Or.inr (grecv_at (by assumption)) | exact Or.inr (grecv_c (by assumption)) | exact Or.inr (grecv_c (SIs.cls (by assumption))) | exact Or.inr (grecv_at (BSb.at (by assumption)))) (by first | exact Or.inl (by decide) | exact Or.inr (gnewv_at (by assumption))) rfl (G_j0 (by rcases hc with rfl | rfl; exact Or.inl h; exact Or.inr (Or.inl h))) ?_; rintro _ _ ⟨rfl, rfl⟩
  (repeat (refine GW.pl rfl rfl ?_))
  rcases hc with rfl | rfl
  · first | (refine GW.puti rfl rfl (by assumption) rfl (by first | omega | decide | (constructor <;> first | omega | decide)) ?_) | (refine GW.putz rfl rfl (by assumption) rfl (by first | omega | decide | (constructor <;> first | omega | decide)) ?_) | (refine GW.putb rfl rfl (by assumption) rfl (by first | omega | decide | (constructor <;> first | omega | decide)) ?_) | (refine GW.putc rfl rfl (by assumption) rfl (by first | omega | decide | (constructor <;> first | omega | decide)) ?_) | (refine GW.putr rfl rfl (by assumption) rfl ?_)
    exact GW.ret rfl rfl ⟨_, rfl, rfl, rfl⟩
  · first | (refine GW.puti rfl rfl (by assumption) rfl (by first | omega | decide | (constructor <;> first | omega | decide)) ?_) | (refine GW.putz rfl rfl (by assumption) rfl (by first | omega | decide | (constructor <;> first | omega | decide)) ?_) | (refine GW.putb rfl rfl (by assumption) rfl (by first | omega | decide | (constructor <;> first | omega | decide)) ?_) | (refine GW.putc rfl rfl (by assumption) rfl (by first | omega | decide | (constructor <;> first | omega | decide)) ?_) | (refine GW.putr rfl rfl (by assumption) rfl ?_)
    exact GW.ret rfl rfl ⟨_, rfl, rfl, rfl⟩
theorem RIs.nil330 (hW : GWf g) : RIs g 330 [] 0 := by
  obtain ⟨h1, h2, h3, h4, h5⟩ := hW.1 330 (by decide)
  exact ⟨h2, Nat.le_refl _, fun j hj => (by cases hj), fun j => by rw [h5]; rfl⟩
theorem G_alNew (h : GAt g n 16) (h2 : gfi g 104 n = 0) : GMr (d + 3) gk_J6_init [aR n] g (fun r g' => r = none ∧ Kp g g' (fun k => k = n) 0 ∧ ALs g' n [] 330 0 ∧ gfi g' 102 n = 0) := by
  refine GMr.wf (fun hW => ?_)
  refine GM.of rfl rfl rfl ?_
  (repeat (refine GW.pl rfl rfl ?_))
  refine GW.c1 rfl rfl (by first | exact Or.inl rfl | exact Or.inr (grecv_at (by assumption)) | exact Or.inr (grecv_c (by assumption)) | exact Or.inr (grecv_c (SIs.cls (by assumption))) | exact Or.inr (grecv_at (BSb.at (by assumption)))) (by first | exact Or.inl (by decide) | exact Or.inr (gnewv_at (by assumption))) rfl (G_j1 h (Or.inr rfl)) ?_
  rintro _ _ ⟨rfl, rfl⟩
  (repeat (refine GW.pl rfl rfl ?_))
  first | (refine GW.puti rfl rfl (by assumption) rfl (by first | omega | decide | (constructor <;> first | omega | decide)) ?_) | (refine GW.putz rfl rfl (by assumption) rfl (by first | omega | decide | (constructor <;> first | omega | decide)) ?_) | (refine GW.putb rfl rfl (by assumption) rfl (by first | omega | decide | (constructor <;> first | omega | decide)) ?_) | (refine GW.putc rfl rfl (by assumption) rfl (by first | omega | decide | (constructor <;> first | omega | decide)) ?_) | (refine GW.putr rfl rfl (by assumption) rfl ?_)
  exact GW.ret rfl rfl ⟨_, rfl, rfl, (Kp.fi (S := fun k => k = n) (F := 102) (n := n) (x := 0) rfl rfl).tr (Kp.fr rfl rfl), ⟨h, h2, gfr_eq, Or.inr ⟨rfl, rfl⟩, (RIs.nil330 hW : RIs g 330 [] 0)⟩, gfi_eq⟩
theorem G_alSize (h : ALs g n xs a cap) : GE (d + 1) gk_J6_size [aR n] g (vI xs.length) := by
  refine GMr.wf (fun hW => ?_)
  have := h.lt hW
  obtain ⟨h1, h2, h3, h4, h5⟩ := h
  have h6 := h5.2.1
  refine GM.of rfl rfl rfl ?_
  (repeat (first | (refine GW.pl rfl rfl ?_) | (refine GW.geti rfl rfl (by first | exact GHas.at (by assumption) rfl | exact GHas.k (by assumption) rfl rfl) (by first | assumption | rfl) (fun _ => ?_)) | (refine GW.getr rfl rfl (by first | exact GHas.at (by assumption) rfl | exact GHas.k (by assumption) rfl rfl) (by first | assumption | rfl) ?_)))
  exact GW.ir1 rfl rfl ⟨by omega, by omega⟩ ⟨_, rfl, rfl, rfl⟩
theorem G_alEmp (h : ALs g n xs a cap) : GE (d + 1) gk_J6_isEmpty [aR n] g (vI (if xs = [] then 1 else 0)) := by
  obtain ⟨h1, h2, h3, h4, h5⟩ := h
  refine GM.of rfl rfl rfl ?_
  (repeat (first | (refine GW.pl rfl rfl ?_) | (refine GW.geti rfl rfl (by first | exact GHas.at (by assumption) rfl | exact GHas.k (by assumption) rfl rfl) (by first | assumption | rfl) (fun _ => ?_)) | (refine GW.getr rfl rfl (by first | exact GHas.at (by assumption) rfl | exact GHas.k (by assumption) rfl rfl) (by first | assumption | rfl) ?_)))
  refine GW.br rfl rfl (by first | omega | decide | (constructor <;> first | omega | decide)) (fun h6 => ?_) (fun h6 => ?_)
  · (repeat (refine GW.pl rfl rfl ?_))
    rw [if_neg (fun z => by rw [z] at h6; exact h6 rfl)]
    exact GW.ir2 rfl rfl (by decide) ⟨_, rfl, rfl, rfl⟩
  · (repeat (refine GW.pl rfl rfl ?_))
    rw [if_pos (List.length_eq_zero_iff.mp (by omega))]
    exact GW.ir2 rfl rfl (by decide) ⟨_, rfl, rfl, rfl⟩
theorem ALs.arr (h : ALs g n xs a cap) (hx : 0 < xs.length) : GAt g a 104 := by
  rcases h.2.2.2.1 with z | z
  · exact z.1
  · have := h.2.2.2.2.2.1; omega
theorem G_alEl (h : ALs g n xs a cap) {i : Int} (hi : 0 ≤ i ∧ i < xs.length) : GE (d + 1) gk_J6_elementData [aR n, aI i] g (vR (xs.getD i.toNat none)) := by
  have hA := h.arr (by omega)
  obtain ⟨h1, h2, h3, h4, h5⟩ := h
  have h6 := h5.2.1
  refine GM.of rfl rfl rfl ?_
  (repeat (first | (refine GW.pl rfl rfl ?_) | (refine GW.geti rfl rfl (by first | exact GHas.at (by assumption) rfl | exact GHas.k (by assumption) rfl rfl) (by first | assumption | rfl) (fun _ => ?_)) | (refine GW.getr rfl rfl (by first | exact GHas.at (by assumption) rfl | exact GHas.k (by assumption) rfl rfl) (by first | assumption | rfl) ?_)))
  refine GW.aald rfl hA (by decide) h5.1 (by omega) (h5.2.2.1 _ (by omega)) ?_
  exact GW.aret rfl rfl ⟨_, rfl, rfl, rfl⟩
theorem G_alGet (h : ALs g n xs a cap) {i : Int} (hi : 0 ≤ i ∧ i < xs.length) : GE (d + 3) gk_J6_get [aR n, aI i] g (vR (xs.getD i.toNat none)) := by
  refine GMr.wf (fun hW => ?_)
  have hlt := h.lt hW
  have hh := h
  obtain ⟨h1, h2, h3, h4, h5⟩ := h
  have h6 := h5.2.1
  refine GM.of rfl rfl rfl ?_
  (repeat (first | (refine GW.pl rfl rfl ?_) | (refine GW.geti rfl rfl (by first | exact GHas.at (by assumption) rfl | exact GHas.k (by assumption) rfl rfl) (by first | assumption | rfl) (fun _ => ?_)) | (refine GW.getr rfl rfl (by first | exact GHas.at (by assumption) rfl | exact GHas.k (by assumption) rfl rfl) (by first | assumption | rfl) ?_)))
  refine GW.c2 rfl rfl (by first | exact Or.inl rfl | exact Or.inr (grecv_at (by assumption)) | exact Or.inr (grecv_c (by assumption)) | exact Or.inr (grecv_c (SIs.cls (by assumption))) | exact Or.inr (grecv_at (BSb.at (by assumption)))) (by first | exact Or.inl (by decide) | exact Or.inr (gnewv_at (by assumption))) rfl (G_ochk ⟨hi.1, hi.2, by omega⟩) ?_; rintro _ _ ⟨rfl, rfl⟩
  (repeat (refine GW.pl rfl rfl ?_))
  refine GW.c2 rfl rfl (by first | exact Or.inl rfl | exact Or.inr (grecv_at (by assumption)) | exact Or.inr (grecv_c (by assumption)) | exact Or.inr (grecv_c (SIs.cls (by assumption))) | exact Or.inr (grecv_at (BSb.at (by assumption)))) (by first | exact Or.inl (by decide) | exact Or.inr (gnewv_at (by assumption))) rfl (G_alEl hh hi) ?_; rintro _ _ ⟨rfl, rfl⟩
  exact GW.aret rfl rfl ⟨_, rfl, rfl, rfl⟩
theorem G_alSet (h : ALs g n xs a cap) {i : Int} (hi : 0 ≤ i ∧ i < xs.length) {v : Option Nat} (hv : gokO g v = true) : GMr (d + 3) gk_J6_set [aR n, aI i, aQ v] g (fun r g' => r = vR (xs.getD i.toNat none) ∧ g' = gsar g a i.toNat v ∧ ALs g' n (xs.set i.toNat v) a cap) := by
  refine GMr.wf (fun hW => ?_)
  have hlt := h.lt hW
  have hA := h.arr (by omega)
  have hh := h
  obtain ⟨h1, h2, h3, h4, h5⟩ := h
  have h6 := h5.2.1
  refine GM.of rfl rfl rfl ?_
  (repeat (first | (refine GW.pl rfl rfl ?_) | (refine GW.geti rfl rfl (by first | exact GHas.at (by assumption) rfl | exact GHas.k (by assumption) rfl rfl) (by first | assumption | rfl) (fun _ => ?_)) | (refine GW.getr rfl rfl (by first | exact GHas.at (by assumption) rfl | exact GHas.k (by assumption) rfl rfl) (by first | assumption | rfl) ?_)))
  refine GW.c2 rfl rfl (by first | exact Or.inl rfl | exact Or.inr (grecv_at (by assumption)) | exact Or.inr (grecv_c (by assumption)) | exact Or.inr (grecv_c (SIs.cls (by assumption))) | exact Or.inr (grecv_at (BSb.at (by assumption)))) (by first | exact Or.inl (by decide) | exact Or.inr (gnewv_at (by assumption))) rfl (G_ochk ⟨hi.1, hi.2, by omega⟩) ?_; rintro _ _ ⟨rfl, rfl⟩
  (repeat (refine GW.pl rfl rfl ?_))
  refine GW.c2 rfl rfl (by first | exact Or.inl rfl | exact Or.inr (grecv_at (by assumption)) | exact Or.inr (grecv_c (by assumption)) | exact Or.inr (grecv_c (SIs.cls (by assumption))) | exact Or.inr (grecv_at (BSb.at (by assumption)))) (by first | exact Or.inl (by decide) | exact Or.inr (gnewv_at (by assumption))) rfl (G_alEl hh hi) ?_; rintro _ _ ⟨rfl, rfl⟩
  (repeat (first | (refine GW.pl rfl rfl ?_) | (refine GW.geti rfl rfl (by first | exact GHas.at (by assumption) rfl | exact GHas.k (by assumption) rfl rfl) (by first | assumption | rfl) (fun _ => ?_)) | (refine GW.getr rfl rfl (by first | exact GHas.at (by assumption) rfl | exact GHas.k (by assumption) rfl rfl) (by first | assumption | rfl) ?_)))
  refine GW.aast rfl hA (by decide) h5.1 (by omega) (gput_O hv) ?_
  (repeat (refine GW.pl rfl rfl ?_))
  exact GW.aret rfl rfl ⟨_, rfl, rfl, rfl, h1, by rw [List.length_set]; exact h2, h3, h4, h5.set hv (by omega)⟩
/-- a longer array of objects -/
theorem G_cpO (hA : GAt g a 104) (h : RIs g a xs cap) {x : Int} (hx : (cap : Int) ≤ x ∧ x < 65536) : GMr (d + 2) gk_J14_copyOf [aR a, aI x] g (fun r g' => ∃ q, r = vR (some q) ∧ Kp g g' (fun _ => False) (12 + x.toNat) ∧ gsz g ≤ q ∧ q < gsz g' ∧ GAt g' q 104 ∧ RIs g' q xs x.toNat ∧ (∀ j, j < cap → gar g' q j = gar g a j) ∧ ∀ j, cap ≤ j → gar g' q j = none) := by
  refine GMr.wf (fun hW => ?_)
  have ha : a < gsz g := hW.lt (by rw [hA.1]; decide)
  have inner : ∀ d, GMr (d + 1) gk_J14_copyOf_2 [aR a, aI x, aR 334] g (fun r g' => ∃ q, r = vR (some q) ∧ Kp g g' (fun _ => False) (12 + x.toNat) ∧ gsz g ≤ q ∧ q < gsz g' ∧ GAt g' q 104 ∧ RIs g' q xs x.toNat ∧ (∀ j, j < cap → gar g' q j = gar g a j) ∧ ∀ j, cap ≤ j → gar g' q j = none) := by
    intro d
    refine GM.of rfl rfl rfl ?_
    (repeat (refine GW.pl rfl rfl ?_))
    refine GW.ane rfl rfl (fun z => absurd rfl z) (fun _ => ?_)
    (repeat (refine GW.pl rfl rfl ?_))
    refine GW.arr rfl rfl (by omega) (fun q hq hAq => ?_)
    (repeat (refine GW.pl rfl rfl ?_))
    have hs := gnew_same (g := g) (c := 104) (L := x.toNat) (s := x.toNat) ha
    have hA1 : GAt (gnew g 104 x.toNat x.toNat) a 104 := ⟨hs.1.trans hA.1, hA.2⟩
    refine GW.alen rfl hA1.1 rfl (hs.2.1.trans h.1) (fun hl => ?_)
    (repeat (refine GW.pl rfl rfl ?_))
    refine GW.min (v := (cap : Int)) rfl (Nat.le_of_ble_eq_true rfl) (by constructor <;> constructor <;> omega) (by split <;> omega) ?_
    have hln : glen (gnew g 104 x.toNat x.toNat) q = x.toNat := gnew_len hq
    have hK : Kp g (gnew g 104 x.toNat x.toNat) (fun _ => False) (12 + x.toNat) := Kp.new hW
    refine GW.cpr rfl hAq hA1 (Nat.le_of_ble_eq_true rfl) ?_ (fun k hk => ?_) ?_
    · rw [hs.2.1, h.1, hln]
      refine ⟨by omega, by decide, by decide, by omega, by omega⟩
    · rw [hs.2.2.2.2.2]
      exact gokO.kp hK hW (h.2.2.2 _)
    (repeat (refine GW.pl rfl rfl ?_))
    have hK2 : Kp g (gcpr (gnew g 104 x.toNat x.toNat) a q 0 0 cap) (fun _ => False) (12 + x.toNat) := hK.trans (Kp.cpr (S := fun k => k = q) rfl) (fun k hk z => by omega)
    have e : ∀ j, gar (gcpr (gnew g 104 x.toNat x.toNat) a q 0 0 cap) q j = if j < cap then gar g a j else none := by
      intro j
      rw [gcpr_at, Int.toNat_natCast]
      by_cases hj : j < cap
      · rw [if_pos hj, if_pos ⟨Nat.zero_le _, by show j < 0 + cap; omega⟩, hs.2.2.2.2.2]
        congr 1
        show 0 + (j - 0) = j
        omega
      · rw [if_neg hj, if_neg (fun z => hj (by have : j < 0 + cap := z.2; omega))]
        exact gnew_ar hq
    refine GW.aret rfl rfl ⟨_, rfl, q, rfl, hK2, by omega, by show q < gsz g + 1; omega, hAq, ⟨hln, by have := h.2.1; omega, fun j hj => ?_, fun j => ?_⟩, fun j hj => ?_, fun j hj => ?_⟩
    · rw [e, if_pos (by have := h.2.1; omega)]; exact h.2.2.1 j hj
    · rw [e]
      split
      · exact gokO.kp hK2 hW (h.2.2.2 j)
      · rfl
    · rw [e, if_pos hj]
    · rw [e, if_neg (by omega)]
  refine GM.of rfl rfl rfl ?_
  (repeat (refine GW.pl rfl rfl ?_))
  refine GW.getc rfl hA (Nat.le_of_ble_eq_true rfl) ?_
  refine GW.c3 rfl rfl (by first | exact Or.inl rfl | exact Or.inr (grecv_at (by assumption)) | exact Or.inr (grecv_c (by assumption)) | exact Or.inr (grecv_c (SIs.cls (by assumption))) | exact Or.inr (grecv_at (BSb.at (by assumption)))) (by first | exact Or.inl (by decide) | exact Or.inr (gnewv_at (by assumption))) rfl (inner d) ?_
  rintro r g' ⟨q, rfl, hq⟩
  exact GW.aret rfl rfl ⟨_, rfl, q, rfl, hq⟩
/-- room for one more -/
def AlG (g g' : GH) (n a cap : Nat) (xs : List (Option Nat)) (r : Option GV) : Prop := ∃ a' cap', r = vR (some a') ∧ Kp g g' (fun k => k = n) (6 * (cap' - cap)) ∧ ALs g' n xs a' cap' ∧ GAt g' a' 104 ∧ gsz g ≤ a' ∧ a' < gsz g' ∧ cap < cap' ∧ cap' ≤ 2 * xs.length + 10 ∧ gfi g' 102 n = gfi g 102 n
theorem G_alGr (h : ALs g n xs a cap) (hx : xs.length = cap) (hc : cap < 40000) : GMr (d + 3) gk_J6_grow_2 [aR n, aI (xs.length + 1)] g (fun r g' => AlG g g' n a cap xs r) := by
  refine GMr.wf (fun hW => ?_)
  have hlt := h.lt hW
  obtain ⟨h1, h2, h3, h4, h5⟩ := h
  refine GM.of rfl rfl rfl ?_
  (repeat (first | (refine GW.pl rfl rfl ?_) | (refine GW.geti rfl rfl (by first | exact GHas.at (by assumption) rfl | exact GHas.k (by assumption) rfl rfl) (by first | assumption | rfl) (fun _ => ?_)) | (refine GW.getr rfl rfl (by first | exact GHas.at (by assumption) rfl | exact GHas.k (by assumption) rfl rfl) (by first | assumption | rfl) ?_)))
  refine GW.alen rfl hlt.2.2.2.2 rfl h5.1 (fun hl => ?_)
  (repeat (refine GW.pl rfl rfl ?_))
  rcases h4 with ⟨hA, h10⟩ | ⟨rfl, rfl⟩
  · refine GW.br rfl rfl (by first | omega | decide | (constructor <;> first | omega | decide)) (fun h6 => ?_) (fun h6 => by first | (exfalso; omega) | exact absurd h6 (by decide))
    (repeat (refine GW.pl rfl rfl ?_))
    refine GW.bin rfl (g_shr1 ⟨by omega, by omega⟩) ?_
    refine GW.c3 rfl rfl (by first | exact Or.inl rfl | exact Or.inr (grecv_at (by assumption)) | exact Or.inr (grecv_c (by assumption)) | exact Or.inr (grecv_c (SIs.cls (by assumption))) | exact Or.inr (grecv_at (BSb.at (by assumption)))) (by first | exact Or.inl (by decide) | exact Or.inr (gnewv_at (by assumption))) rfl (G_newLen (v := (cap : Int) / 2) ⟨by omega, by omega⟩ ⟨by omega, by omega⟩ ⟨by omega, by omega⟩ (by split <;> omega)) ?_; rintro _ _ ⟨rfl, rfl⟩
    (repeat (first | (refine GW.pl rfl rfl ?_) | (refine GW.geti rfl rfl (by first | exact GHas.at (by assumption) rfl | exact GHas.k (by assumption) rfl rfl) (by first | assumption | rfl) (fun _ => ?_)) | (refine GW.getr rfl rfl (by first | exact GHas.at (by assumption) rfl | exact GHas.k (by assumption) rfl rfl) (by first | assumption | rfl) ?_)))
    refine GW.c2 rfl rfl (by first | exact Or.inl rfl | exact Or.inr (grecv_at (by assumption)) | exact Or.inr (grecv_c (by assumption)) | exact Or.inr (grecv_c (SIs.cls (by assumption))) | exact Or.inr (grecv_at (BSb.at (by assumption)))) (by first | exact Or.inl (by decide) | exact Or.inr (gnewv_at (by assumption))) rfl (G_cpO hA h5 (x := (cap : Int) + cap / 2) ⟨by omega, by omega⟩) ?_
    rintro _ g1 ⟨q, rfl, hK, hq1, hq2, hAq, hR, -, -⟩
    have hs := hK.2.2.1 n hlt.1 (fun z => z)
    have h1' : GAt g1 n 16 := ⟨hs.1.trans h1.1, h1.2⟩
    (repeat (refine GW.pl rfl rfl ?_))
    first | (refine GW.puti rfl rfl (by assumption) rfl (by first | omega | decide | (constructor <;> first | omega | decide)) ?_) | (refine GW.putz rfl rfl (by assumption) rfl (by first | omega | decide | (constructor <;> first | omega | decide)) ?_) | (refine GW.putb rfl rfl (by assumption) rfl (by first | omega | decide | (constructor <;> first | omega | decide)) ?_) | (refine GW.putc rfl rfl (by assumption) rfl (by first | omega | decide | (constructor <;> first | omega | decide)) ?_) | (refine GW.putr rfl rfl (by assumption) rfl ?_)
    have hx2 : ((cap : Int) + cap / 2).toNat = cap + cap / 2 := by omega
    rw [hx2] at hK hR
    refine GW.aret rfl rfl ⟨_, rfl, q, cap + cap / 2, rfl, ?_, ⟨h1', (hs.2.2.1 104).trans h2, gfr_eq, Or.inl ⟨hAq, by omega⟩, hR⟩, hAq, hq1, hq2, by omega, by omega, hs.2.2.1 102⟩
    exact (hK.mono (S' := fun k => k = n) (c' := 6 * (cap + cap / 2 - cap)) (by omega) (fun _ _ z => z.elim)).trans (Kp.fr (S := fun k => k = n) rfl rfl) (fun _ _ z => z)
  · refine GW.br rfl rfl (by first | omega | decide | (constructor <;> first | omega | decide)) (fun h6 => by first | (exfalso; omega) | exact absurd h6 (by decide)) (fun h6 => ?_)
    (repeat (first | (refine GW.pl rfl rfl ?_) | (refine GW.geti rfl rfl (by first | exact GHas.at (by assumption) rfl | exact GHas.k (by assumption) rfl rfl) (by first | assumption | rfl) (fun _ => ?_)) | (refine GW.getr rfl rfl (by first | exact GHas.at (by assumption) rfl | exact GHas.k (by assumption) rfl rfl) (by first | assumption | rfl) ?_)))
    refine GW.aeq rfl rfl (fun _ => ?_) (fun z => absurd rfl z)
    (repeat (refine GW.pl rfl rfl ?_))
    refine GW.max (v := 10) rfl (Nat.le_of_ble_eq_true rfl) ⟨by decide, by omega, by omega⟩ (by split <;> omega) ?_
    refine GW.arr rfl rfl (by decide) (fun q hq hAq => ?_)
    have hs := gnew_same (g := g) (c := 104) (L := 10) (s := 10) hlt.1
    have h1' : GAt (gnew g 104 10 10) n 16 := ⟨hs.1.trans h1.1, h1.2⟩
    (repeat (refine GW.pl rfl rfl ?_))
    refine GW.putr rfl rfl h1' rfl ?_
    have hxs : xs = [] := List.length_eq_zero_iff.mp hx
    subst hxs
    refine GW.aret rfl rfl ⟨_, rfl, q, 10, rfl, ?_, ⟨h1', (hs.2.2.1 104).trans h2, gfr_eq, Or.inl ⟨hAq, by omega⟩, ⟨gnew_len (c := 104) (L := 10) (s := 10) hq, Nat.zero_le _, fun j hj => (by cases hj), fun j => ?_⟩⟩, hAq, by omega, by show q < gsz g + 1; omega, by omega, Nat.le_refl _, hs.2.2.1 102⟩
    · exact ((Kp.new (s := 10) hW).mono (S' := fun k => k = n) (c' := 6 * (10 - 0)) (by omega) (fun _ _ z => z)).trans (Kp.fr (S := fun k => k = n) rfl rfl) (fun _ _ z => z)
    · have e : gar (gsfr (gnew g 104 (Int.toNat 10) (Int.toNat 10)) 103 n (some q)) q j = none := gnew_ar (c := 104) (L := 10) (s := 10) hq
      rw [e]; rfl
theorem G_alGrow (h : ALs g n xs a cap) (hx : xs.length = cap) (hc : cap < 40000) : GMr (d + 4) gk_J6_grow [aR n] g (fun r g' => AlG g g' n a cap xs r) := by
  have hh := h
  obtain ⟨h1, h2, h3, h4, h5⟩ := h
  refine GM.of rfl rfl rfl ?_
  (repeat (first | (refine GW.pl rfl rfl ?_) | (refine GW.geti rfl rfl (by first | exact GHas.at (by assumption) rfl | exact GHas.k (by assumption) rfl rfl) (by first | assumption | rfl) (fun _ => ?_)) | (refine GW.getr rfl rfl (by first | exact GHas.at (by assumption) rfl | exact GHas.k (by assumption) rfl rfl) (by first | assumption | rfl) ?_)))
  refine GW.c2 rfl rfl (by first | exact Or.inl rfl | exact Or.inr (grecv_at (by assumption)) | exact Or.inr (grecv_c (by assumption)) | exact Or.inr (grecv_c (SIs.cls (by assumption))) | exact Or.inr (grecv_at (BSb.at (by assumption)))) (by first | exact Or.inl (by decide) | exact Or.inr (gnewv_at (by assumption))) rfl (G_alGr hh hx hc) ?_
  rintro r g' ⟨a', cap', rfl, hq⟩
  exact GW.aret rfl rfl ⟨_, rfl, a', cap', rfl, hq⟩
theorem G_alAd (h : ALs g n xs a cap) {v : Option Nat} (hv : gokO g v = true) (hc : xs.length < 40000) : GMr (d + 5) gk_J6_add_2 [aR n, aQ v, aR a, aI xs.length] g (fun r g' => r = none ∧ AlQ g g' n a cap (xs ++ [v]) 0) := by
  refine GMr.wf (fun hW => ?_)
  have hlt := h.lt hW
  have hh := h
  obtain ⟨h1, h2, h3, h4, h5⟩ := h
  have h6 := h5.2.1
  have fin : ∀ (i : Nat) (hi : i = 7) (g1 : GH) (a' cap' : Nat) (hK : Kp g g1 (AlS n a) (6 * (cap' - cap))) (hA : ALs g1 n xs a' cap') (hA' : GAt g1 a' 104) (hlt' : xs.length < cap') (ha : a' = a ∨ gsz g ≤ a') (ha2 : a' < gsz g1) (hcc : cap ≤ cap') (hcap : cap' = cap ∨ cap' ≤ 2 * xs.length + 10) (hm : gfi g1 102 n = gfi g 102 n), GW (d + 4) gm_J6_add_2 i [some (aR n), some (aQ v), some (aR a'), some (aI xs.length)] [] g1 (fun r g' => ∃ w, r = .inl w ∧ w = none ∧ AlQ g g' n a cap (xs ++ [v]) 0) := by
    intro i hi g1 a' cap' hK hA hA' hlt' ha ha2 hcc hcap hm
    subst hi
    obtain ⟨k1, k2, k3, k4, k5⟩ := hA
    (repeat (refine GW.pl rfl rfl ?_))
    refine GW.aast rfl hA' (by decide) k5.1 (by omega) (gput_O (gokO.kp hK hW hv)) ?_
    (repeat (refine GW.pl rfl rfl ?_))
    refine GW.puti rfl rfl k1 rfl ⟨by omega, by omega⟩ ?_
    rw [Int.toNat_natCast]
    refine GW.ret rfl rfl ⟨_, rfl, rfl, a', cap', ?_, ⟨k1, ?_, k3, k4, k5.snoc (gokO.kp hK hW hv) hlt'⟩, ha, ha2, hcc, ?_, ?_⟩
    · refine hK.trans (S2 := fun k => k = n ∨ k = a') ((Kp.ar (S := fun k => k = n ∨ k = a') (Or.inr rfl)).tr (Kp.fi rfl (Or.inl rfl))) (fun k hk z => ?_)
      rcases z with z | z
      · exact Or.inl z
      · rcases ha with z2 | z2
        · exact Or.inr ⟨by omega, by have := hA'.2; omega⟩
        · omega
    · rw [List.length_append]; exact gfi_eq
    · rw [List.length_append]; show _ ∨ _ ≤ 2 * (xs.length + 1) + 10; omega
    · exact (gfi_nf (g := gsar g1 a' xs.length v) (F := 104) (n := n) (x := (xs.length : Int) + 1) (f := 102) (k := n) rfl).trans (hm.trans (Int.add_zero _).symm)
  refine GM.of rfl rfl rfl ?_
  (repeat (refine GW.pl rfl rfl ?_))
  refine GW.alen rfl hlt.2.2.2.2 rfl h5.1 (fun hl => ?_)
  refine GW.br rfl rfl (by first | omega | decide | (constructor <;> first | omega | decide)) (fun h7 => ?_) (fun h7 => ?_)
  · have hA' : GAt g a 104 := by
      rcases h4 with z | z
      · exact z.1
      · omega
    exact fin 7 rfl g a cap (by rw [Nat.sub_self]; exact Kp.rf) hh hA' (by omega) (Or.inl rfl) hlt.2.1 (Nat.le_refl _) (Or.inl rfl) rfl
  · (repeat (refine GW.pl rfl rfl ?_))
    refine GW.c1 rfl rfl (by first | exact Or.inl rfl | exact Or.inr (grecv_at (by assumption)) | exact Or.inr (grecv_c (by assumption)) | exact Or.inr (grecv_c (SIs.cls (by assumption))) | exact Or.inr (grecv_at (BSb.at (by assumption)))) (by first | exact Or.inl (by decide) | exact Or.inr (gnewv_at (by assumption))) rfl (G_alGrow hh (by omega) (by omega)) ?_
    rintro _ g1 ⟨a', cap', rfl, hK, hA, hA', q1, q2, q3, q4, q5⟩
    (iterate 1 (refine GW.pl rfl rfl ?_))
    exact fin 7 rfl g1 a' cap' (hK.mono (Nat.le_refl _) (fun _ _ z => Or.inl z)) hA hA' (by omega) (Or.inr q1) q2 (by omega) (Or.inr q4) q5
theorem G_alAdd (h : ALs g n xs a cap) {v : Option Nat} (hv : gokO g v = true) (hc : xs.length < 40000) (hm : gfi g 102 n < 2147483647) : GMr (d + 6) gk_J6_add [aR n, aQ v] g (fun r g' => r = vI 1 ∧ AlQ g g' n a cap (xs ++ [v]) 1) := by
  refine GMr.wf (fun hW => ?_)
  have hlt := h.lt hW
  have hm0 := hW.2.1.1 102 n
  have hh := h
  obtain ⟨h1, h2, h3, h4, h5⟩ := h
  refine GM.of rfl rfl rfl ?_
  (repeat (first | (refine GW.pl rfl rfl ?_) | (refine GW.geti rfl rfl (by first | exact GHas.at (by assumption) rfl | exact GHas.k (by assumption) rfl rfl) (by first | assumption | rfl) (fun _ => ?_)) | (refine GW.getr rfl rfl (by first | exact GHas.at (by assumption) rfl | exact GHas.k (by assumption) rfl rfl) (by first | assumption | rfl) ?_)))
  refine GW.puti rfl rfl h1 rfl ⟨by omega, by omega⟩ ?_
  (repeat (first | (refine GW.pl rfl rfl ?_) | (refine GW.geti rfl rfl (by first | exact GHas.at (by assumption) rfl | exact GHas.k (by assumption) rfl rfl) (by first | assumption | rfl) (fun _ => ?_)) | (refine GW.getr rfl rfl (by first | exact GHas.at (by assumption) rfl | exact GHas.k (by assumption) rfl rfl) (by first | assumption | rfl) ?_)))
  have hK1 : Kp g (gsfi g 102 n (gfi g 102 n + 1)) (AlS n a) 0 := Kp.fi rfl (Or.inl rfl)
  have hh1 : ALs (gsfi g 102 n (gfi g 102 n + 1)) n xs a cap := ⟨h1, (gfi_nf rfl).trans h2, h3, h4, h5⟩
  refine GW.c4 rfl rfl (by first | exact Or.inl rfl | exact Or.inr (grecv_at (by assumption)) | exact Or.inr (grecv_c (by assumption)) | exact Or.inr (grecv_c (SIs.cls (by assumption))) | exact Or.inr (grecv_at (BSb.at (by assumption)))) (by first | exact Or.inl (by decide) | exact Or.inr (gnewv_at (by assumption))) rfl (G_alAd hh1 (v := v) hv hc) ?_
  rintro _ g2 ⟨rfl, a', cap', hK, hq1, hq2, hq3, hq4, hq5, hq6⟩
  (repeat (refine GW.pl rfl rfl ?_))
  refine GW.ir2 rfl rfl (by decide) ⟨_, rfl, rfl, a', cap', (hK1.tr hK).le (by omega), hq1, hq2, hq3, hq4, hq5, ?_⟩
  rw [hq6]
  rw [gfi_eq]; omega
theorem G_alClr (h : ALs g n xs a cap) (hm : gfi g 102 n < 2147483647) : GMr (d + 1) gk_J6_clear [aR n] g (fun r g' => r = none ∧ Kp g g' (AlS n a) 0 ∧ ALs g' n [] a cap ∧ gfi g' 102 n = gfi g 102 n + 1) := by
  refine GMr.wf (fun hW => ?_)
  have hlt := h.lt hW
  have hm0 := hW.2.1.1 102 n
  have hA := h.arr
  obtain ⟨h1, h2, h3, h4, h5⟩ := h
  have h6 := h5.2.1
  refine GM.of rfl rfl rfl ?_
  (repeat (first | (refine GW.pl rfl rfl ?_) | (refine GW.geti rfl rfl (by first | exact GHas.at (by assumption) rfl | exact GHas.k (by assumption) rfl rfl) (by first | assumption | rfl) (fun _ => ?_)) | (refine GW.getr rfl rfl (by first | exact GHas.at (by assumption) rfl | exact GHas.k (by assumption) rfl rfl) (by first | assumption | rfl) ?_)))
  refine GW.puti rfl rfl h1 rfl ⟨by omega, by omega⟩ ?_
  (repeat (first | (refine GW.pl rfl rfl ?_) | (refine GW.geti rfl rfl (by first | exact GHas.at (by assumption) rfl | exact GHas.k (by assumption) rfl rfl) (by first | assumption | rfl) (fun _ => ?_)) | (refine GW.getr rfl rfl (by first | exact GHas.at (by assumption) rfl | exact GHas.k (by assumption) rfl rfl) (by first | assumption | rfl) ?_)))
  refine GW.puti rfl rfl h1 rfl (by decide) ?_
  (iterate 1 (refine GW.pl rfl rfl ?_))
  have e1 : gfi (gsfi (gsfi g 102 n (gfi g 102 n + 1)) 104 n 0) 102 n = gfi g 102 n + 1 := (gfi_nf rfl).trans gfi_eq
  have e2 : gfi (gsfi (gsfi g 102 n (gfi g 102 n + 1)) 104 n 0) 104 n = 0 := gfi_eq
  have hK0 : Kp g (gsfi (gsfi g 102 n (gfi g 102 n + 1)) 104 n 0) (AlS n a) 0 := (Kp.fi (S := AlS n a) (F := 102) (n := n) (x := gfi g 102 n + 1) rfl (Or.inl rfl)).tr (Kp.fi rfl (Or.inl rfl))
  have hR0 : RIs (gsfi (gsfi g 102 n (gfi g 102 n + 1)) 104 n 0) a [] cap := h5.pre (Nat.zero_le _) (fun j hj => (by cases hj))
  have h30 : gfr (gsfi (gsfi g 102 n (gfi g 102 n + 1)) 104 n 0) 103 n = some a := h3
  have h10 : GAt (gsfi (gsfi g 102 n (gfi g 102 n + 1)) 104 n 0) n 16 := h1
  have h40 : gcls (gsfi (gsfi g 102 n (gfi g 102 n + 1)) 104 n 0) a = gcls g a := rfl
  generalize gsfi (gsfi g 102 n (gfi g 102 n + 1)) 104 n 0 = g0 at e1 e2 hK0 hR0 h30 h10 h40 ⊢
  have loop : ∀ (m k : Nat) (g1 : GH), m + k = xs.length → GAt g1 n 16 → Kp g g1 (AlS n a) 0 → gfi g1 102 n = gfi g 102 n + 1 → gfi g1 104 n = 0 → gfr g1 103 n = some a → RIs g1 a [] cap → gcls g1 a = gcls g a → GW d gm_J6_clear 17 [some (aR n), some (aR a), some (aI xs.length), some (aI k)] [] g1 (fun r g' => ∃ v, r = .inl v ∧ v = none ∧ Kp g g' (AlS n a) 0 ∧ ALs g' n [] a cap ∧ gfi g' 102 n = gfi g 102 n + 1) := by
    intro m
    induction m with
    | zero =>
      intro k g1 hk p1 p2 p3 p4 p5 p6 p7
      (repeat (refine GW.pl rfl rfl ?_))
      refine GW.br rfl rfl (by first | omega | decide | (constructor <;> first | omega | decide)) (fun h8 => ?_) (fun h8 => by first | (exfalso; omega) | exact absurd h8 (by decide))
      exact GW.ret rfl rfl ⟨_, rfl, rfl, p2, ⟨p1, p4, p5, by rcases h4 with z | z; exact Or.inl ⟨⟨p7.trans z.1.1, z.1.2⟩, z.2⟩; exact Or.inr z, p6⟩, p3⟩
    | succ m ih =>
      intro k g1 hk p1 p2 p3 p4 p5 p6 p7
      have hA1 : GAt g1 a 104 := ⟨p7.trans hlt.2.2.2.2, (hA (by omega)).2⟩
      (repeat (refine GW.pl rfl rfl ?_))
      refine GW.br rfl rfl (by first | omega | decide | (constructor <;> first | omega | decide)) (fun h8 => by first | (exfalso; omega) | exact absurd h8 (by decide)) (fun h8 => ?_)
      (repeat (refine GW.pl rfl rfl ?_))
      refine GW.aast rfl hA1 (by decide) p6.1 (by omega) (gput_O rfl) ?_
      (iterate 2 (refine GW.pl rfl rfl ?_))
      refine ih (k + 1) _ (by omega) p1 (p2.tr (Kp.ar (Or.inr ⟨rfl, hA1.2⟩))) p3 p4 p5 ⟨p6.1, Nat.zero_le _, fun j hj => (by cases hj), fun j => ?_⟩ p7
      show gokO g1 (gar (gsar g1 a (k : Int).toNat none) a j) = true
      rw [gar_at]
      split
      · rfl
      · exact p6.2.2.2 j
  exact loop xs.length 0 g0 rfl h10 hK0 e1 e2 h30 hR0 h40
/-- the last one goes -/
theorem G_alFR (h : ALs g n xs a cap) (hx : 0 < xs.length) (hm : gfi g 102 n < 2147483647) : GMr (d + 1) gk_J6_fastRemove [aR n, aR a, aI (xs.length - 1)] g (fun r g' => r = none ∧ Kp g g' (AlS n a) 0 ∧ ALs g' n (xs.take (xs.length - 1)) a cap ∧ gfi g' 102 n = gfi g 102 n + 1) := by
  refine GMr.wf (fun hW => ?_)
  have hlt := h.lt hW
  have hm0 := hW.2.1.1 102 n
  have hA := h.arr hx
  obtain ⟨h1, h2, h3, h4, h5⟩ := h
  have h6 := h5.2.1
  refine GM.of rfl rfl rfl ?_
  (repeat (first | (refine GW.pl rfl rfl ?_) | (refine GW.geti rfl rfl (by first | exact GHas.at (by assumption) rfl | exact GHas.k (by assumption) rfl rfl) (by first | assumption | rfl) (fun _ => ?_)) | (refine GW.getr rfl rfl (by first | exact GHas.at (by assumption) rfl | exact GHas.k (by assumption) rfl rfl) (by first | assumption | rfl) ?_)))
  refine GW.puti rfl rfl h1 rfl ⟨by omega, by omega⟩ ?_
  (repeat (first | (refine GW.pl rfl rfl ?_) | (refine GW.geti rfl rfl (by first | exact GHas.at (by assumption) rfl | exact GHas.k (by assumption) rfl rfl) (by first | assumption | rfl) (fun _ => ?_)) | (refine GW.getr rfl rfl (by first | exact GHas.at (by assumption) rfl | exact GHas.k (by assumption) rfl rfl) (by first | assumption | rfl) ?_)))
  refine GW.br rfl rfl (by first | omega | decide | (constructor <;> first | omega | decide)) (fun h7 => ?_) (fun h7 => by first | (exfalso; omega) | exact absurd h7 (by decide))
  (repeat (refine GW.pl rfl rfl ?_))
  refine GW.puti rfl rfl h1 rfl ⟨by omega, by omega⟩ ?_
  (repeat (refine GW.pl rfl rfl ?_))
  refine GW.aast rfl hA (by decide) h5.1 (by omega) (gput_O rfl) ?_
  have hl : (xs.take (xs.length - 1)).length = xs.length - 1 := by rw [List.length_take]; omega
  refine GW.ret rfl rfl ⟨_, rfl, rfl, ?_, ⟨h1, ?_, h3, h4, ?_⟩, ?_⟩
  · exact ((Kp.fi (S := AlS n a) (F := 102) (n := n) (x := gfi g 102 n + 1) rfl (Or.inl rfl)).tr (Kp.fi rfl (Or.inl rfl))).tr (Kp.ar (Or.inr ⟨rfl, hA.2⟩))
  · rw [hl]
    show (if 104 = 104 ∧ n = n then (xs.length : Int) - 1 else _) = _
    rw [if_pos ⟨rfl, rfl⟩]; omega
  · refine ⟨h5.1, by omega, fun j hj => ?_, fun j => ?_⟩
    · rw [hl] at hj
      refine gar_at.trans ?_
      rw [if_neg (by omega)]
      refine (h5.2.2.1 j (by omega)).trans ?_
      rw [List.getD_eq_getElem?_getD, List.getD_eq_getElem?_getD, List.getElem?_take_of_lt hj]
    · show gokO g (gar (gsar g a _ none) a j) = true
      rw [gar_at]
      split
      · rfl
      · exact h5.2.2.2 j
  · exact (gfi_nf (g := gsfi g 102 n (gfi g 102 n + 1)) (F := 104) (n := n) (x := (xs.length : Int) - 1) (f := 102) (k := n) rfl).trans gfi_eq
theorem G_alRem (h : ALs g n xs a cap) (hx : 0 < xs.length) (hm : gfi g 102 n < 2147483647) : GMr (d + 3) gk_J6_remove [aR n, aI (xs.length - 1)] g (fun r g' => (∃ q, r = vR q) ∧ Kp g g' (AlS n a) 0 ∧ ALs g' n (xs.take (xs.length - 1)) a cap ∧ gfi g' 102 n = gfi g 102 n + 1) := by
  refine GMr.wf (fun hW => ?_)
  have hlt := h.lt hW
  have hA := h.arr hx
  have hh := h
  obtain ⟨h1, h2, h3, h4, h5⟩ := h
  have h6 := h5.2.1
  refine GM.of rfl rfl rfl ?_
  (repeat (first | (refine GW.pl rfl rfl ?_) | (refine GW.geti rfl rfl (by first | exact GHas.at (by assumption) rfl | exact GHas.k (by assumption) rfl rfl) (by first | assumption | rfl) (fun _ => ?_)) | (refine GW.getr rfl rfl (by first | exact GHas.at (by assumption) rfl | exact GHas.k (by assumption) rfl rfl) (by first | assumption | rfl) ?_)))
  refine GW.c2 rfl rfl (by first | exact Or.inl rfl | exact Or.inr (grecv_at (by assumption)) | exact Or.inr (grecv_c (by assumption)) | exact Or.inr (grecv_c (SIs.cls (by assumption))) | exact Or.inr (grecv_at (BSb.at (by assumption)))) (by first | exact Or.inl (by decide) | exact Or.inr (gnewv_at (by assumption))) rfl (G_ochk (i := (xs.length : Int) - 1) (m := xs.length) ⟨by omega, by omega, by omega⟩) ?_; rintro _ _ ⟨rfl, rfl⟩
  (repeat (first | (refine GW.pl rfl rfl ?_) | (refine GW.geti rfl rfl (by first | exact GHas.at (by assumption) rfl | exact GHas.k (by assumption) rfl rfl) (by first | assumption | rfl) (fun _ => ?_)) | (refine GW.getr rfl rfl (by first | exact GHas.at (by assumption) rfl | exact GHas.k (by assumption) rfl rfl) (by first | assumption | rfl) ?_)))
  refine GW.aald rfl hA (by decide) h5.1 (by omega) rfl ?_
  (repeat (refine GW.pl rfl rfl ?_))
  refine GW.c3 rfl rfl (by first | exact Or.inl rfl | exact Or.inr (grecv_at (by assumption)) | exact Or.inr (grecv_c (by assumption)) | exact Or.inr (grecv_c (SIs.cls (by assumption))) | exact Or.inr (grecv_at (BSb.at (by assumption)))) (by first | exact Or.inl (by decide) | exact Or.inr (gnewv_at (by assumption))) rfl (G_alFR hh hx hm) ?_
  rintro _ g1 ⟨rfl, hq⟩
  (repeat (refine GW.pl rfl rfl ?_))
  exact GW.aret rfl rfl ⟨_, rfl, ⟨_, rfl⟩, hq⟩
end Al
