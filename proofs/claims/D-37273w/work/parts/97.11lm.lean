set_option maxRecDepth 100000
/-! LINKEDLIST's methods -/
section Lm
variable {d : Nat} {g : GH} {l : Nat} {ns : List Nat} {xs : List (Option Nat)}
theorem G_llNew (h : GAt g l 18) (h2 : gfr g 109 l = none) (h3 : gfr g 110 l = none) : GMr (d + 4) gk_J3_init [aR l] g (fun r g' => r = none ∧ Kp g g' (fun k => k = l) 0 ∧ LLs g' l [] [] ∧ gfi g' 102 l = 0) := by
  have inner : ∀ d, GMr (d + 3) gk_J2_init [aR l] g (fun r g' => r = none ∧ g' = gsfi g 102 l 0) := by
    intro d
    refine GM.of rfl rfl rfl ?_
    (repeat (refine GW.pl rfl rfl ?_))
    refine GW.c1 rfl rfl (by first | exact Or.inl rfl | exact Or.inr (grecv_at (by assumption)) | exact Or.inr (grecv_c (by assumption)) | exact Or.inr (grecv_c (SIs.cls (by assumption))) | exact Or.inr (grecv_at (BSb.at (by assumption)))) (by first | exact Or.inl (by decide) | exact Or.inr (gnewv_at (by assumption))) rfl (G_j1 h (Or.inl rfl)) ?_
    rintro _ _ ⟨rfl, rfl⟩
    exact GW.ret rfl rfl ⟨_, rfl, rfl, rfl⟩
  refine GM.of rfl rfl rfl ?_
  (repeat (refine GW.pl rfl rfl ?_))
  refine GW.c1 rfl rfl (by first | exact Or.inl rfl | exact Or.inr (grecv_at (by assumption)) | exact Or.inr (grecv_c (by assumption)) | exact Or.inr (grecv_c (SIs.cls (by assumption))) | exact Or.inr (grecv_at (BSb.at (by assumption)))) (by first | exact Or.inl (by decide) | exact Or.inr (gnewv_at (by assumption))) rfl (inner d) ?_
  rintro _ _ ⟨rfl, rfl⟩
  (repeat (refine GW.pl rfl rfl ?_))
  first | (refine GW.puti rfl rfl (by assumption) rfl (by first | omega | decide | (constructor <;> first | omega | decide)) ?_) | (refine GW.putz rfl rfl (by assumption) rfl (by first | omega | decide | (constructor <;> first | omega | decide)) ?_) | (refine GW.putb rfl rfl (by assumption) rfl (by first | omega | decide | (constructor <;> first | omega | decide)) ?_) | (refine GW.putc rfl rfl (by assumption) rfl (by first | omega | decide | (constructor <;> first | omega | decide)) ?_) | (refine GW.putr rfl rfl (by assumption) rfl ?_)
  exact GW.ret rfl rfl ⟨_, rfl, rfl, (Kp.fi (S := fun k => k = l) (F := 102) (n := l) (x := 0) rfl rfl).tr (Kp.fi rfl rfl), ⟨h, gfi_eq, h2, h3, rfl, List.nodup_nil, fun i n hi => (by cases hi), fun i => rfl⟩, (gfi_nf (g := gsfi g 102 l 0) (F := 108) (n := l) (x := 0) rfl).trans gfi_eq⟩
theorem G_llSize (h : LLs g l ns xs) : GE (d + 1) gk_J3_size [aR l] g (vI xs.length) := by
  refine GMr.wf (fun hW => ?_)
  have hm := hW.2.1.1 108 l
  obtain ⟨h1, h2, h3, h4, h5, h6, h7, h8⟩ := h
  rw [h2] at hm
  refine GM.of rfl rfl rfl ?_
  (repeat (first | (refine GW.pl rfl rfl ?_) | (refine GW.geti rfl rfl (by first | exact GHas.at (by assumption) rfl | exact GHas.k (by assumption) rfl rfl) (by first | assumption | rfl) (fun _ => ?_)) | (refine GW.getr rfl rfl (by first | exact GHas.at (by assumption) rfl | exact GHas.k (by assumption) rfl rfl) (by first | assumption | rfl) ?_)))
  rw [h5] at hm ⊢
  exact GW.ir1 rfl rfl hm ⟨_, rfl, rfl, rfl⟩
theorem G_llEmp (h : LLs g l ns xs) : GE (d + 2) gk_J0_isEmpty [aR l] g (vI (if xs = [] then 1 else 0)) := by
  refine GMr.wf (fun hW => ?_)
  have hm := hW.2.1.1 108 l
  have h1 := h.1
  have h5 := h.2.2.2.2.1
  rw [h.2.1, h5] at hm
  refine GM.of rfl rfl rfl ?_
  (repeat (refine GW.pl rfl rfl ?_))
  refine GW.c1 rfl rfl (by first | exact Or.inl rfl | exact Or.inr (grecv_at (by assumption)) | exact Or.inr (grecv_c (by assumption)) | exact Or.inr (grecv_c (SIs.cls (by assumption))) | exact Or.inr (grecv_at (BSb.at (by assumption)))) (by first | exact Or.inl (by decide) | exact Or.inr (gnewv_at (by assumption))) rfl (G_llSize h) ?_; rintro _ _ ⟨rfl, rfl⟩
  refine GW.br rfl rfl (by first | omega | decide | (constructor <;> first | omega | decide)) (fun h6 => ?_) (fun h6 => ?_)
  · (repeat (refine GW.pl rfl rfl ?_))
    rw [if_neg (fun z => by rw [z] at h6; exact h6 rfl)]
    exact GW.ir2 rfl rfl (by decide) ⟨_, rfl, rfl, rfl⟩
  · (repeat (refine GW.pl rfl rfl ?_))
    rw [if_pos (List.length_eq_zero_iff.mp (by omega))]
    exact GW.ir2 rfl rfl (by decide) ⟨_, rfl, rfl, rfl⟩
theorem getE {α : Type} {ns : List α} {i : Nat} (hi : i < ns.length) : ∃ n, ns[i]? = some n := ⟨_, List.getElem?_eq_getElem hi⟩
/-- the node at i -/
theorem G_llNode (h : LLs g l ns xs) {i : Nat} (hi : i < ns.length) : GE (d + 1) gk_J3_node [aR l, aI i] g (vR ns[i]?) := by
  refine GMr.wf (fun hW => ?_)
  have hm := hW.2.1.1 108 l
  obtain ⟨h1, h2, h3, h4, h5, h6, h7, h8⟩ := h
  rw [h2] at hm
  refine GM.of rfl rfl rfl ?_
  (repeat (first | (refine GW.pl rfl rfl ?_) | (refine GW.geti rfl rfl (by first | exact GHas.at (by assumption) rfl | exact GHas.k (by assumption) rfl rfl) (by first | assumption | rfl) (fun _ => ?_)) | (refine GW.getr rfl rfl (by first | exact GHas.at (by assumption) rfl | exact GHas.k (by assumption) rfl rfl) (by first | assumption | rfl) ?_)))
  refine GW.bin rfl (g_shr1 hm) ?_
  refine GW.br rfl rfl (by first | omega | decide | (constructor <;> first | omega | decide)) (fun h9 => ?_) (fun h9 => ?_)
  · (iterate 8 (first | (refine GW.pl rfl rfl ?_) | (refine GW.geti rfl rfl (by first | exact GHas.at (by assumption) rfl | exact GHas.k (by assumption) rfl rfl) (by first | assumption | rfl) (fun _ => ?_)) | (refine GW.getr rfl rfl (by first | exact GHas.at (by assumption) rfl | exact GHas.k (by assumption) rfl rfl) (by first | assumption | rfl) ?_)))
    have loop : ∀ (m k : Nat), k = i + m → k < ns.length → GW d gm_J3_node 29 [some (aR l), some (aI i), some (aQ ns[k]?), some (aI k)] [] g (fun r g' => ∃ v, r = .inl v ∧ vR ns[i]? = v ∧ g = g') := by
      intro m
      induction m with
      | zero =>
        intro k hk hk2
        have hk : k = i := hk
        subst hk
        (repeat (refine GW.pl rfl rfl ?_))
        refine GW.br rfl rfl (by first | omega | decide | (constructor <;> first | omega | decide)) (fun h10 => ?_) (fun h10 => by first | (exfalso; omega) | exact absurd h10 (by decide))
        (repeat (refine GW.pl rfl rfl ?_))
        exact GW.aret rfl rfl ⟨_, rfl, rfl, rfl⟩
      | succ m ih =>
        intro k hk hk2
        obtain ⟨n, hn⟩ := getE hk2
        rw [hn]
        obtain ⟨a1, a2, a3, a4⟩ := h7 k n hn
        (repeat (refine GW.pl rfl rfl ?_))
        refine GW.br rfl rfl (by first | omega | decide | (constructor <;> first | omega | decide)) (fun h10 => by first | (exfalso; omega) | exact absurd h10 (by decide)) (fun h10 => ?_)
        (iterate 2 (first | (refine GW.pl rfl rfl ?_) | (refine GW.geti rfl rfl (by first | exact GHas.at (by assumption) rfl | exact GHas.k (by assumption) rfl rfl) (by first | assumption | rfl) (fun _ => ?_)) | (refine GW.getr rfl rfl (by first | exact GHas.at (by assumption) rfl | exact GHas.k (by assumption) rfl rfl) (by first | assumption | rfl) ?_)))
        have e : pv ns k = ns[k - 1]? := if_neg (by omega)
        rw [e]
        (iterate 3 (refine GW.pl rfl rfl ?_))
        have hb := ih (k - 1) (by omega) (by omega)
        rw [show (((k - 1 : Nat)) : Int) = (k : Int) + -1 by omega] at hb
        exact hb
    have hb := loop (ns.length - 1 - i) (ns.length - 1) (by omega) (by omega)
    have e : pv ns ns.length = ns[ns.length - 1]? := if_neg (by omega)
    rw [e]
    rw [show (((ns.length - 1 : Nat)) : Int) = (ns.length : Int) - 1 by omega] at hb
    exact hb
  · (iterate 5 (first | (refine GW.pl rfl rfl ?_) | (refine GW.geti rfl rfl (by first | exact GHas.at (by assumption) rfl | exact GHas.k (by assumption) rfl rfl) (by first | assumption | rfl) (fun _ => ?_)) | (refine GW.getr rfl rfl (by first | exact GHas.at (by assumption) rfl | exact GHas.k (by assumption) rfl rfl) (by first | assumption | rfl) ?_)))
    have loop : ∀ (m k : Nat), k + m = i → GW d gm_J3_node 11 [some (aR l), some (aI i), some (aQ ns[k]?), some (aI k)] [] g (fun r g' => ∃ v, r = .inl v ∧ vR ns[i]? = v ∧ g = g') := by
      intro m
      induction m with
      | zero =>
        intro k hk
        have hk : k = i := hk
        subst hk
        (repeat (refine GW.pl rfl rfl ?_))
        refine GW.br rfl rfl (by first | omega | decide | (constructor <;> first | omega | decide)) (fun h10 => ?_) (fun h10 => by first | (exfalso; omega) | exact absurd h10 (by decide))
        (repeat (refine GW.pl rfl rfl ?_))
        exact GW.aret rfl rfl ⟨_, rfl, rfl, rfl⟩
      | succ m ih =>
        intro k hk
        obtain ⟨n, hn⟩ := getE (show k < ns.length by omega)
        rw [hn]
        obtain ⟨a1, a2, a3, a4⟩ := h7 k n hn
        (repeat (refine GW.pl rfl rfl ?_))
        refine GW.br rfl rfl (by first | omega | decide | (constructor <;> first | omega | decide)) (fun h10 => by first | (exfalso; omega) | exact absurd h10 (by decide)) (fun h10 => ?_)
        (iterate 2 (first | (refine GW.pl rfl rfl ?_) | (refine GW.geti rfl rfl (by first | exact GHas.at (by assumption) rfl | exact GHas.k (by assumption) rfl rfl) (by first | assumption | rfl) (fun _ => ?_)) | (refine GW.getr rfl rfl (by first | exact GHas.at (by assumption) rfl | exact GHas.k (by assumption) rfl rfl) (by first | assumption | rfl) ?_)))
        (iterate 3 (refine GW.pl rfl rfl ?_))
        exact ih (k + 1) (by omega)
    exact loop i 0 (by omega)
theorem G_llGet (h : LLs g l ns xs) {i : Nat} (hi : i < xs.length) : GE (d + 3) gk_J3_get [aR l, aI i] g (vR (xs.getD i none)) := by
  refine GMr.wf (fun hW => ?_)
  have hm := hW.2.1.1 108 l
  have hh := h
  obtain ⟨h1, h2, h3, h4, h5, h6, h7, h8⟩ := h
  rw [h2] at hm
  obtain ⟨n, hn⟩ := getE (show i < ns.length by omega)
  obtain ⟨a1, a2, a3, a4⟩ := h7 i n hn
  have chk : ∀ d, GE (d + 2) gk_J3_checkElementIndex [aR l, aI i] g none := by
    intro d
    have c1 : ∀ d, GE (d + 1) gk_J3_isElementIndex [aR l, aI i] g (vI 1) := by
      intro d
      refine GM.of rfl rfl rfl ?_
      (repeat (refine GW.pl rfl rfl ?_))
      refine GW.br rfl rfl (by first | omega | decide | (constructor <;> first | omega | decide)) (fun h10 => by first | (exfalso; omega) | exact absurd h10 (by decide)) (fun h10 => ?_)
      (repeat (first | (refine GW.pl rfl rfl ?_) | (refine GW.geti rfl rfl (by first | exact GHas.at (by assumption) rfl | exact GHas.k (by assumption) rfl rfl) (by first | assumption | rfl) (fun _ => ?_)) | (refine GW.getr rfl rfl (by first | exact GHas.at (by assumption) rfl | exact GHas.k (by assumption) rfl rfl) (by first | assumption | rfl) ?_)))
      refine GW.br rfl rfl (by first | omega | decide | (constructor <;> first | omega | decide)) (fun h10 => by first | (exfalso; omega) | exact absurd h10 (by decide)) (fun h10 => ?_)
      (repeat (refine GW.pl rfl rfl ?_))
      exact GW.ir2 rfl rfl (by decide) ⟨_, rfl, rfl, rfl⟩
    refine GM.of rfl rfl rfl ?_
    (repeat (refine GW.pl rfl rfl ?_))
    refine GW.c2 rfl rfl (by first | exact Or.inl rfl | exact Or.inr (grecv_at (by assumption)) | exact Or.inr (grecv_c (by assumption)) | exact Or.inr (grecv_c (SIs.cls (by assumption))) | exact Or.inr (grecv_at (BSb.at (by assumption)))) (by first | exact Or.inl (by decide) | exact Or.inr (gnewv_at (by assumption))) rfl (c1 d) ?_; rintro _ _ ⟨rfl, rfl⟩
    refine GW.br rfl rfl (by first | omega | decide | (constructor <;> first | omega | decide)) (fun h10 => ?_) (fun h10 => by first | (exfalso; omega) | exact absurd h10 (by decide))
    exact GW.ret rfl rfl ⟨_, rfl, rfl, rfl⟩
  refine GM.of rfl rfl rfl ?_
  (repeat (refine GW.pl rfl rfl ?_))
  refine GW.c2 rfl rfl (by first | exact Or.inl rfl | exact Or.inr (grecv_at (by assumption)) | exact Or.inr (grecv_c (by assumption)) | exact Or.inr (grecv_c (SIs.cls (by assumption))) | exact Or.inr (grecv_at (BSb.at (by assumption)))) (by first | exact Or.inl (by decide) | exact Or.inr (gnewv_at (by assumption))) rfl (chk d) ?_; rintro _ _ ⟨rfl, rfl⟩
  (repeat (refine GW.pl rfl rfl ?_))
  refine GW.c2 rfl rfl (by first | exact Or.inl rfl | exact Or.inr (grecv_at (by assumption)) | exact Or.inr (grecv_c (by assumption)) | exact Or.inr (grecv_c (SIs.cls (by assumption))) | exact Or.inr (grecv_at (BSb.at (by assumption)))) (by first | exact Or.inl (by decide) | exact Or.inr (gnewv_at (by assumption))) rfl (G_llNode hh (show i < ns.length by omega)) ?_; rintro _ _ ⟨rfl, rfl⟩
  rw [hn]
  (repeat (first | (refine GW.pl rfl rfl ?_) | (refine GW.geti rfl rfl (by first | exact GHas.at (by assumption) rfl | exact GHas.k (by assumption) rfl rfl) (by first | assumption | rfl) (fun _ => ?_)) | (refine GW.getr rfl rfl (by first | exact GHas.at (by assumption) rfl | exact GHas.k (by assumption) rfl rfl) (by first | assumption | rfl) ?_)))
  exact GW.aret rfl rfl ⟨_, rfl, rfl, rfl⟩
/-- a node is made -/
def NdQ (g g' : GH) (q : Nat) (p : Option Nat) (v nx : Option Nat) : Prop := Kp g g' (fun _ => False) 15 ∧ GAt g' q 20 ∧ gfr g' 116 q = v ∧ gfr g' 117 q = nx ∧ gfr g' 118 q = p ∧ gsz g' = gsz g + 1
theorem G_node {q : Nat} (hW : GWf g) (hq : q = gsz g) (hA : GAt (gnew g 20 0 3) q 20) (p v nx : Option Nat) : GMr (d + 1) gk_J15_init [aR q, aQ p, aQ v, aQ nx] (gnew g 20 0 3) (fun r g' => r = none ∧ NdQ g g' q p v nx) := by
  refine GM.of rfl rfl rfl ?_
  (repeat (refine GW.pl rfl rfl ?_))
  refine GW.oini rfl (And.right (show GAt _ _ _ by assumption)) (Nat.le_of_ble_eq_true rfl) ?_
  (repeat (refine GW.pl rfl rfl ?_))
  first | (refine GW.puti rfl rfl (by assumption) rfl (by first | omega | decide | (constructor <;> first | omega | decide)) ?_) | (refine GW.putz rfl rfl (by assumption) rfl (by first | omega | decide | (constructor <;> first | omega | decide)) ?_) | (refine GW.putb rfl rfl (by assumption) rfl (by first | omega | decide | (constructor <;> first | omega | decide)) ?_) | (refine GW.putc rfl rfl (by assumption) rfl (by first | omega | decide | (constructor <;> first | omega | decide)) ?_) | (refine GW.putr rfl rfl (by assumption) rfl ?_)
  (repeat (refine GW.pl rfl rfl ?_))
  first | (refine GW.puti rfl rfl (by assumption) rfl (by first | omega | decide | (constructor <;> first | omega | decide)) ?_) | (refine GW.putz rfl rfl (by assumption) rfl (by first | omega | decide | (constructor <;> first | omega | decide)) ?_) | (refine GW.putb rfl rfl (by assumption) rfl (by first | omega | decide | (constructor <;> first | omega | decide)) ?_) | (refine GW.putc rfl rfl (by assumption) rfl (by first | omega | decide | (constructor <;> first | omega | decide)) ?_) | (refine GW.putr rfl rfl (by assumption) rfl ?_)
  (repeat (refine GW.pl rfl rfl ?_))
  first | (refine GW.puti rfl rfl (by assumption) rfl (by first | omega | decide | (constructor <;> first | omega | decide)) ?_) | (refine GW.putz rfl rfl (by assumption) rfl (by first | omega | decide | (constructor <;> first | omega | decide)) ?_) | (refine GW.putb rfl rfl (by assumption) rfl (by first | omega | decide | (constructor <;> first | omega | decide)) ?_) | (refine GW.putc rfl rfl (by assumption) rfl (by first | omega | decide | (constructor <;> first | omega | decide)) ?_) | (refine GW.putr rfl rfl (by assumption) rfl ?_)
  refine GW.ret rfl rfl ⟨_, rfl, rfl, ?_, hA, ?_, ?_, gfr_eq, rfl⟩
  · exact (Kp.new (s := 3) hW).trans (((Kp.fr (S := fun k => k = q) (F := 116) (n := q) (r := v) rfl rfl).tr (Kp.fr rfl rfl)).tr (Kp.fr rfl rfl)) (fun k hk z => by omega)
  · exact (gfr_nf (g := gsfr (gsfr (gnew g 20 0 3) 116 q v) 117 q nx) (F := 118) (n := q) rfl).trans ((gfr_nf (g := gsfr (gnew g 20 0 3) 116 q v) (F := 117) (n := q) rfl).trans gfr_eq)
  · exact (gfr_nf (g := gsfr (gsfr (gnew g 20 0 3) 116 q v) 117 q nx) (F := 118) (n := q) rfl).trans gfr_eq
def LlQ (g g' : GH) (l : Nat) (ns : List Nat) (xs : List (Option Nat)) (k : Nat) (v : Option Nat) : Prop := ∃ q, Kp g g' (LlS l ns) 15 ∧ LLs g' l (insA ns k q) (insA xs k v) ∧ gsz g ≤ q ∧ q < gsz g' ∧ gfi g' 102 l = gfi g 102 l + 1
theorem pv_mem {i n : Nat} (h : pv ns i = some n) : 0 < i ∧ ns[i - 1]? = some n := by
  unfold pv at h
  split at h
  · cases h
  · exact ⟨by omega, h⟩
theorem G_llLast (h : LLs g l ns xs) {v : Option Nat} (hv : gokO g v = true) (hm : gfi g 102 l < 2147483647) (hl : ns.length < 1000000) : GMr (d + 2) gk_J3_linkLast [aR l, aQ v] g (fun r g' => r = none ∧ LlQ g g' l ns xs ns.length v) := by
  refine GMr.wf (fun hW => ?_)
  have hm0 := hW.2.1.1 102 l
  have hlt := h.lt hW
  have hh := h
  obtain ⟨h1, h2, h3, h4, h5, h6, h7, h8⟩ := h
  refine GM.of rfl rfl rfl ?_
  (repeat (first | (refine GW.pl rfl rfl ?_) | (refine GW.geti rfl rfl (by first | exact GHas.at (by assumption) rfl | exact GHas.k (by assumption) rfl rfl) (by first | assumption | rfl) (fun _ => ?_)) | (refine GW.getr rfl rfl (by first | exact GHas.at (by assumption) rfl | exact GHas.k (by assumption) rfl rfl) (by first | assumption | rfl) ?_)))
  refine GW.wf (fun hW0 => ?_)
  refine GW.new (L := 3) (c := 20) rfl rfl rfl (fun q hq hAq => ?_)
  (repeat (refine GW.pl rfl rfl ?_))
  refine GW.c4 rfl rfl (by first | exact Or.inl rfl | exact Or.inr (grecv_at (by assumption)) | exact Or.inr (grecv_c (by assumption)) | exact Or.inr (grecv_c (SIs.cls (by assumption))) | exact Or.inr (grecv_at (BSb.at (by assumption)))) (by first | exact Or.inl (by decide) | exact Or.inr (gnewv_at (by assumption))) rfl (G_node hW hq hAq (pv ns ns.length) v none) ?_
  rintro _ g1 ⟨rfl, hK, q1, q2, q3, q4, q5⟩
  have hqn : q ∉ ns := fun z => by have := hlt.2.1 q z; omega
  have hql : q ≠ l := by have := hlt.1; omega
  have sl := hK.2.2.1 l hlt.1 (fun z => z)
  have sn := fun n (hn : n ∈ ns) => hK.2.2.1 n (hlt.2.1 n hn) (fun z => z)
  have l1 : GAt g1 l 18 := ⟨sl.1.trans h1.1, h1.2⟩
  have l2 : gfi g1 108 l = ns.length := (sl.2.2.1 _).trans h2
  have l3 : gfr g1 109 l = ns[0]? := (sl.2.2.2.1 _).trans h3
  have l5 : gfi g1 102 l = gfi g 102 l := sl.2.2.1 _
  (repeat (refine GW.pl rfl rfl ?_))
  refine GW.putr rfl rfl l1 rfl ?_
  (repeat (refine GW.pl rfl rfl ?_))
  have n7 : ∀ (i n : Nat), ns[i]? = some n → GAt g1 n 20 ∧ gfr g1 116 n = xs.getD i none ∧ gfr g1 117 n = ns[i + 1]? ∧ gfr g1 118 n = pv ns i := by
    intro i n hi
    obtain ⟨b1, b2, b3, b4⟩ := h7 i n hi
    have kn := sn n (List.mem_of_getElem? hi)
    exact ⟨⟨kn.1.trans b1.1, b1.2⟩, (kn.2.2.2.1 _).trans b2, (kn.2.2.2.1 _).trans b3, (kn.2.2.2.1 _).trans b4⟩
  by_cases hz : ns.length = 0
  · have hns : ns = [] := List.length_eq_zero_iff.mp hz
    subst hns
    refine GW.nul rfl rfl rfl ?_
    (repeat (refine GW.pl rfl rfl ?_))
    refine GW.putr rfl rfl l1 rfl ?_
    (repeat (refine GW.pl rfl rfl ?_))
    refine GW.geti (v := 0) rfl rfl (GHas.at l1 rfl) (l2 : gfi g1 108 l = 0) (fun _ => ?_)
    (repeat (refine GW.pl rfl rfl ?_))
    refine GW.puti rfl rfl l1 rfl (by decide) ?_
    (repeat (refine GW.pl rfl rfl ?_))
    refine GW.geti (v := gfi g 102 l) rfl rfl (GHas.at l1 rfl) ((gfi_nf (g := g1) (F := 108) (n := l) rfl).trans l5) (fun _ => ?_)
    (repeat (refine GW.pl rfl rfl ?_))
    refine GW.puti rfl rfl l1 rfl ⟨by omega, by omega⟩ ?_
    refine GW.ret rfl rfl ⟨_, rfl, rfl, q, ?_, ?_, by omega, ?_, gfi_eq⟩
    · exact (hK.mono (S' := LlS l []) (Nat.le_refl _) (fun _ _ z => z.elim)).tr <| (((Kp.fr (S := LlS l []) rfl (Or.inl rfl)).tr (Kp.fr rfl (Or.inl rfl))).tr (Kp.fi rfl (Or.inl rfl))).tr (Kp.fi rfl (Or.inl rfl))
    · refine hh.ins (Nat.le_refl _) hqn l1 ?_ ?_ ?_ ⟨q1, ?_, ?_, ?_⟩ (fun i n hi => (by cases hi)) (fun i => gokO.kp hK hW (h8 i)) (gokO.kp hK hW hv)
      · exact (gfi_nf (F := 102) (n := l) rfl).trans gfi_eq
      · exact gfr_eq (g := gsfr g1 110 l (some q)) (F := 109) (n := l)
      · exact (gfr_nf (g := gsfr g1 110 l (some q)) (F := 109) (n := l) rfl).trans gfr_eq
      · exact q2
      · exact q3
      · exact q4
    · show q < gsz g1; omega
  · obtain ⟨p, hp⟩ := getE (show ns.length - 1 < ns.length by omega)
    have hpv : pv ns ns.length = some p := (if_neg hz).trans hp
    have hpm := List.mem_of_getElem? hp
    obtain ⟨p1, p2, p3, p4⟩ := n7 _ p hp
    rw [hpv]
    refine GW.nul rfl rfl (gok_at (show GAt (gsfr g1 110 l (some q)) p 20 from p1) rfl) ?_
    (repeat (refine GW.pl rfl rfl ?_))
    refine GW.putr rfl rfl p1 rfl ?_
    (repeat (refine GW.pl rfl rfl ?_))
    have hlp : l ≠ p := fun z => hlt.2.2 (z ▸ hpm)
    have hqp : q ≠ p := fun z => hqn (z ▸ hpm)
    refine GW.geti (v := (ns.length : Int)) rfl rfl (GHas.at l1 rfl) l2 (fun _ => ?_)
    (repeat (refine GW.pl rfl rfl ?_))
    refine GW.puti rfl rfl l1 rfl ⟨by omega, by omega⟩ ?_
    (repeat (refine GW.pl rfl rfl ?_))
    refine GW.geti (v := gfi g 102 l) rfl rfl (GHas.at l1 rfl) ((gfi_nf (g := g1) (F := 108) (n := l) rfl).trans l5) (fun _ => ?_)
    (repeat (refine GW.pl rfl rfl ?_))
    refine GW.puti rfl rfl l1 rfl ⟨by omega, by omega⟩ ?_
    refine GW.ret rfl rfl ⟨_, rfl, rfl, q, ?_, ?_, by omega, ?_, gfi_eq⟩
    · exact (hK.mono (S' := LlS l ns) (Nat.le_refl _) (fun _ _ z => z.elim)).tr <| (((Kp.fr (S := LlS l ns) rfl (Or.inl rfl)).tr (Kp.fr rfl (Or.inr hpm))).tr (Kp.fi rfl (Or.inl rfl))).tr (Kp.fi rfl (Or.inl rfl))
    · refine hh.ins (Nat.le_refl _) hqn l1 ?_ ?_ ?_ ⟨q1, ?_, ?_, ?_⟩ (fun i n hi => ?_) (fun i => gokO.kp hK hW (h8 i)) (gokO.kp hK hW hv)
      · exact (gfi_nf (F := 102) (n := l) rfl).trans gfi_eq
      · rw [if_neg hz]
        exact (gfr_nf (g := gsfr g1 110 l (some q)) (F := 117) (n := p) rfl).trans ((gfr_nf (g := g1) (F := 110) (n := l) rfl).trans l3)
      · rw [if_pos rfl]
        exact (gfr_nf (g := gsfr g1 110 l (some q)) (F := 117) (n := p) rfl).trans gfr_eq
      · exact (gfr_nf (g := gsfr g1 110 l (some q)) (F := 117) (n := p) rfl).trans ((gfr_nf (g := g1) (F := 110) (n := l) rfl).trans q2)
      · exact (gfr_nn (g := gsfr g1 110 l (some q)) (F := 117) (n := p) hqp).trans ((gfr_nf (g := g1) (F := 110) (n := l) rfl).trans (q3.trans (List.getElem?_eq_none (Nat.le_refl _)).symm))
      · exact (gfr_nf (g := gsfr g1 110 l (some q)) (F := 117) (n := p) rfl).trans ((gfr_nf (g := g1) (F := 110) (n := l) rfl).trans q4)
      · have hil := (List.getElem?_eq_some_iff.mp hi).1
        obtain ⟨b1, b2, b3, b4⟩ := n7 i n hi
        refine ⟨b1, (gfr_nf (g := gsfr g1 110 l (some q)) (F := 117) (n := p) rfl).trans ((gfr_nf (g := g1) (F := 110) (n := l) rfl).trans b2), ?_, ?_⟩
        · by_cases c : i + 1 = ns.length
          · have e : n = p := by
              have := hi.symm.trans ((show i = ns.length - 1 by omega) ▸ hp)
              exact Option.some.inj this
            rw [if_pos c, e]
            exact gfr_eq (g := gsfr g1 110 l (some q))
          · rw [if_neg c]
            have hne : n ≠ p := fun z => c (by have := nodup_ix h6 hi (z ▸ hp); omega)
            exact (gfr_nn (g := gsfr g1 110 l (some q)) (F := 117) (n := p) hne).trans ((gfr_nf (g := g1) (F := 110) (n := l) rfl).trans b3)
        · rw [if_neg (by omega)]
          exact (gfr_nf (g := gsfr g1 110 l (some q)) (F := 117) (n := p) rfl).trans ((gfr_nf (g := g1) (F := 110) (n := l) rfl).trans b4)
    · show q < gsz g1; omega
theorem G_llAddL (h : LLs g l ns xs) {v : Option Nat} (hv : gokO g v = true) (hm : gfi g 102 l < 2147483647) (hl : ns.length < 1000000) : GMr (d + 3) gk_J3_addLast [aR l, aQ v] g (fun r g' => r = none ∧ LlQ g g' l ns xs ns.length v) := by
  have h1 := h.1
  refine GM.of rfl rfl rfl ?_
  (repeat (refine GW.pl rfl rfl ?_))
  refine GW.c2 rfl rfl (by first | exact Or.inl rfl | exact Or.inr (grecv_at (by assumption)) | exact Or.inr (grecv_c (by assumption)) | exact Or.inr (grecv_c (SIs.cls (by assumption))) | exact Or.inr (grecv_at (BSb.at (by assumption)))) (by first | exact Or.inl (by decide) | exact Or.inr (gnewv_at (by assumption))) rfl (G_llLast h hv hm hl) ?_
  rintro _ g1 ⟨rfl, hq⟩
  exact GW.ret rfl rfl ⟨_, rfl, rfl, hq⟩
end Lm
