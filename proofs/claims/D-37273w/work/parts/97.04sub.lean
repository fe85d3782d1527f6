set_option maxRecDepth 100000
/-! arrays that are copied; substring, valueOf(char), equals -/
theorem gcpi_at {g : GH} {s d j : Nat} {sp dp n : Int} : gai (gcpi g s d sp dp n) d j = if dp.toNat ≤ j ∧ j < dp.toNat + n.toNat then gai g s (sp.toNat + (j - dp.toNat)) else gai g d j := by
  show (if d = d then gcpy (gai g s) (gai g d) sp.toNat dp.toNat n.toNat else gai g d) j = _
  rw [if_pos rfl]; rfl
theorem gcpr_at {g : GH} {s d j : Nat} {sp dp n : Int} : gar (gcpr g s d sp dp n) d j = if dp.toNat ≤ j ∧ j < dp.toNat + n.toNat then gar g s (sp.toNat + (j - dp.toNat)) else gar g d j := by
  show (if d = d then gcpy (gar g s) (gar g d) sp.toNat dp.toNat n.toNat else gar g d) j = _
  rw [if_pos rfl]; rfl
def sub9 (s : List Int) (b e : Int) : List Int := (s.drop b.toNat).take (e - b).toNat
theorem sub9_len {s : List Int} {b e : Int} (h : 0 ≤ b ∧ b ≤ e ∧ e ≤ s.length) : (sub9 s b e).length = (e - b).toNat := by
  unfold sub9; rw [List.length_take, List.length_drop]; omega
theorem sub9_get {s : List Int} {b e : Int} {j : Nat} (hj : j < (e - b).toNat) : (sub9 s b e).getD j 0 = s.getD (b.toNat + j) 0 := by
  unfold sub9
  rw [List.getD_eq_getElem?_getD, List.getD_eq_getElem?_getD, List.getElem?_take_of_lt hj, List.getElem?_drop]
theorem sub9_all {s : List Int} : sub9 s 0 s.length = s := by
  unfold sub9
  show (s.drop 0).take _ = _
  rw [List.drop_zero, List.take_of_length_le (by omega)]
section Cp
variable {d : Nat} {g : GH} {n a cap : Nat} {s : List Int}
theorem cp_new (hW : GWf g) (h : PIs g a s cap) {sp n : Int} {L : Nat} {s' : List Int} (h1 : s'.length ≤ n.toNat) (h2 : s'.length ≤ L) (h3 : ∀ j, j < s'.length → sp.toNat + j < s.length ∧ s'.getD j 0 = s.getD (sp.toNat + j) 0) : PIs (gcpi (gnew g 101 L L) a (gsz g) sp 0 n) (gsz g) s' L := by
  have ha : a < gsz g := hW.lt (by rw [h.1]; decide)
  refine ⟨gnew_cls (c := 101) (L := L) (s := L) rfl, gnew_len (c := 101) (L := L) (s := L) rfl, h2, fun j hj => ?_, fun x hx => ?_⟩
  · rw [gcpi_at, if_pos ⟨Nat.zero_le _, by show j < 0 + n.toNat; omega⟩, (h3 j hj).2]
    have hs := gnew_same (c := 101) (L := L) (s := L) ha
    rw [hs.2.2.2.2.1, show sp.toNat + (j - (0 : Int).toNat) = sp.toNat + j from rfl]
    exact h.2.2.2.1 _ (h3 j hj).1
  · obtain ⟨j, hj, rfl⟩ := List.getElem_of_mem hx
    have h5 := h3 j hj
    rw [List.getD_eq_getElem?_getD, List.getElem?_eq_getElem hj] at h5
    have h6 := h.getD h5.1
    rw [← h5.2] at h6
    exact h6
/-- a new array of bytes -/
def ANew (g g' : GH) (r : Option GV) (s : List Int) (cap c : Nat) : Prop := ∃ q, r = vR (some q) ∧ Kp g g' (fun _ => False) c ∧ gsz g ≤ q ∧ q < gsz g' ∧ 1000 ≤ q ∧ PIs g' q s cap
theorem ANew.at {g' : GH} {r : Option GV} {c : Nat} (h : ANew g g' r s cap c) : ∃ q, r = vR (some q) ∧ GAt g' q 101 ∧ PIs g' q s cap ∧ Kp g g' (fun _ => False) c ∧ gsz g ≤ q ∧ q < gsz g' := by
  obtain ⟨q, h1, h2, h3, h4, h5, h6⟩ := h
  exact ⟨q, h1, ⟨h6.1, h5⟩, h6, h2, h3, h4⟩
theorem cp_ANew (hW : GWf g) (h : PIs g a s cap) {sp n x : Int} {s' : List Int} (h1 : s'.length ≤ n.toNat) (h2 : s'.length ≤ x.toNat) (h3 : ∀ j, j < s'.length → sp.toNat + j < s.length ∧ s'.getD j 0 = s.getD (sp.toNat + j) 0) : ANew g (gcpi (gnew g 101 x.toNat x.toNat) a (gsz g) sp 0 n) (vR (some (gsz g))) s' x.toNat (12 + x.toNat) :=
  ⟨gsz g, rfl, ((Kp.new hW).trans (Kp.cpi (S := fun k => k = gsz g) rfl) (fun k hk z => by omega)), Nat.le_refl _, Nat.lt_succ_self _, hW.2.2.1, cp_new hW h h1 h2 h3⟩
theorem G_chkL {x y : Int} (h : 0 ≤ x ∧ x ≤ y ∧ y < 2147483648) : GE (d + 1) gk_J14_checkLength [aI x, aI y] g none := by
  refine GM.of rfl rfl rfl ?_
  (repeat (refine GW.pl rfl rfl ?_))
  refine GW.br rfl rfl (by first | omega | decide | (constructor <;> first | omega | decide)) (fun h => ?_) (fun h => by first | (exfalso; omega) | exact absurd h (by decide))
  exact GW.ret rfl rfl ⟨_, rfl, rfl, rfl⟩
theorem G_cpRB (h : PIs g a s cap) {b e : Int} (hb : 0 ≤ b ∧ b ≤ e ∧ e ≤ s.length) : GMr (d + 2) gk_J14_copyOfRangeByte [aR a, aI b, aI e] g (fun r g' => ANew g g' r (sub9 s b e) (e - b).toNat (12 + (e - b).toNat)) := by
  refine GMr.wf (fun hW => ?_)
  have hh := h
  obtain ⟨h4, h5, h6, h7, h8⟩ := h
  have hc := hW.2.2.2.2 a
  rw [h5] at hc
  refine GM.of rfl rfl rfl ?_
  (repeat (refine GW.pl rfl rfl ?_))
  refine GW.c2 rfl rfl (by first | exact Or.inl rfl | exact Or.inr (grecv_at (by assumption)) | exact Or.inr (grecv_c (by assumption)) | exact Or.inr (grecv_c (SIs.cls (by assumption))) | exact Or.inr (grecv_at (BSb.at (by assumption)))) (by first | exact Or.inl (by decide) | exact Or.inr (gnewv_at (by assumption))) rfl (G_chkL ⟨hb.1, hb.2.1, by omega⟩) ?_; rintro _ _ ⟨rfl, rfl⟩
  (repeat (refine GW.pl rfl rfl ?_))
  refine GW.arr rfl rfl (by omega) (fun q hq hAq => ?_)
  (repeat (refine GW.pl rfl rfl ?_))
  have ha : a < gsz g := hW.lt (by rw [h4]; decide)
  have hs := gnew_same (g := g) (c := 101) (L := (e - b).toNat) (s := (e - b).toNat) ha
  refine GW.alen rfl (hs.1.trans h4) rfl (hs.2.1.trans h5) (fun hl => ?_)
  (repeat (refine GW.pl rfl rfl ?_))
  refine GW.min (v := e - b) rfl (Nat.le_of_ble_eq_true rfl) (by constructor <;> constructor <;> omega) (by split <;> omega) ?_
  refine GW.cpi rfl hAq (hs.1.trans h4) (Or.inl rfl) (Nat.le_of_ble_eq_true rfl) ?_ ?_
  · rw [hs.2.1, h5, gnew_len hq]
    refine ⟨by omega, by omega, by decide, by omega, by omega⟩
  (repeat (refine GW.pl rfl rfl ?_))
  refine GW.aret rfl rfl ⟨_, rfl, ?_⟩
  subst hq
  have hl2 := sub9_len hb
  exact cp_ANew hW hh (by omega) (by omega) (fun j hj => ⟨by omega, sub9_get (by omega)⟩)
theorem cl_PIs (hW : GWf g) (h : PIs g a s cap) : PIs (gcl9 g 101 a) (gsz g) s cap := by
  refine ⟨gnew_cls (c := 101) (L := glen g a) (s := glen g a) rfl, (gnew_len (c := 101) (L := glen g a) (s := glen g a) rfl).trans h.2.1, h.2.2.1, fun j hj => ?_, h.2.2.2.2⟩
  show (if gsz g = gsz g then gai g a else gai g (gsz g)) j = _
  rw [if_pos rfl]; exact h.2.2.2.1 j hj
theorem G_cpR (h : PIs g a s cap) {b e : Int} (hb : 0 ≤ b ∧ b ≤ e ∧ e ≤ s.length) (hk : 1000 ≤ a ∨ ¬ (b = 0 ∧ e = cap)) : GMr (d + 3) gk_J14_copyOfRange [aR a, aI b, aI e] g (fun r g' => ANew g g' r (sub9 s b e) (e - b).toNat (12 + (e - b).toNat)) := by
  refine GMr.wf (fun hW => ?_)
  have hh := h
  obtain ⟨h4, h5, h6, h7, h8⟩ := h
  have hc := hW.2.2.2.2 a
  rw [h5] at hc
  have other : GW (d + 2) gm_J14_copyOfRange 6 [some (aR a), some (aI b), some (aI e)] [] g (fun r g' => ∃ v, r = .inl v ∧ ANew g g' v (sub9 s b e) (e - b).toNat (12 + (e - b).toNat)) := by
    (repeat (refine GW.pl rfl rfl ?_))
    refine GW.c3 rfl rfl (by first | exact Or.inl rfl | exact Or.inr (grecv_at (by assumption)) | exact Or.inr (grecv_c (by assumption)) | exact Or.inr (grecv_c (SIs.cls (by assumption))) | exact Or.inr (grecv_at (BSb.at (by assumption)))) (by first | exact Or.inl (by decide) | exact Or.inr (gnewv_at (by assumption))) rfl (G_cpRB hh hb) ?_
    rintro r g' ⟨q, rfl, hr2⟩
    exact GW.aret rfl rfl ⟨_, rfl, q, rfl, hr2⟩
  refine GM.of rfl rfl rfl ?_
  (repeat (refine GW.pl rfl rfl ?_))
  refine GW.br rfl rfl (by first | omega | decide | (constructor <;> first | omega | decide)) (fun h1 => ?_) (fun h1 => ?_)
  · exact other
  · (repeat (refine GW.pl rfl rfl ?_))
    refine GW.alen rfl h4 rfl h5 (fun hl => ?_)
    refine GW.br rfl rfl (by first | omega | decide | (constructor <;> first | omega | decide)) (fun h2 => ?_) (fun h2 => ?_)
    · (repeat (refine GW.pl rfl rfl ?_))
      have h1k : 1000 ≤ a := by omega
      refine GW.cln rfl ⟨h4, h1k⟩ (Nat.le_of_ble_eq_true rfl) (fun q hq => ?_)
      have hAq : GAt (gcl9 g 101 a) q 101 := ⟨gnew_cls (c := 101) (L := glen g a) (s := glen g a) hq, by have := hW.2.2.1; omega⟩
      refine GW.cast rfl (gcast_at hAq rfl) ?_
      refine GW.aret rfl rfl ⟨_, rfl, q, rfl, ?_⟩
      subst hq
      subst h1
      have hlen : s.length = cap := by omega
      have e1 : e = (s.length : Int) := by omega
      subst e1
      rw [sub9_all]
      have e2 : ((s.length : Int) - 0).toNat = cap := by omega
      rw [e2]
      exact ⟨(Kp.cl hW).le (by rw [h5]; exact Nat.le_refl _), Nat.le_refl _, Nat.lt_succ_self _, hW.2.2.1, cl_PIs hW hh⟩
    · exact other
/-- a byte array that is longer -/
theorem G_cpB (h : PIs g a s cap) {x : Int} (hx : (cap : Int) < x ∧ x < 65536) : GMr (d + 1) gk_J14_copyOf_3 [aR a, aI x] g (fun r g' => ANew g g' r s x.toNat (12 + x.toNat)) := by
  refine GMr.wf (fun hW => ?_)
  have hh := h
  obtain ⟨h4, h5, h6, h7, h8⟩ := h
  refine GM.of rfl rfl rfl ?_
  (repeat (refine GW.pl rfl rfl ?_))
  refine GW.alen rfl h4 rfl h5 (fun hl => ?_)
  refine GW.br rfl rfl (by first | omega | decide | (constructor <;> first | omega | decide)) (fun h1 => ?_) (fun h1 => by first | (exfalso; omega) | exact absurd h1 (by decide))
  (repeat (refine GW.pl rfl rfl ?_))
  refine GW.arr rfl rfl (by omega) (fun q hq hAq => ?_)
  (repeat (refine GW.pl rfl rfl ?_))
  have ha : a < gsz g := hW.lt (by rw [h4]; decide)
  have hs := gnew_same (g := g) (c := 101) (L := x.toNat) (s := x.toNat) ha
  refine GW.alen rfl (hs.1.trans h4) rfl (hs.2.1.trans h5) (fun hl => ?_)
  (repeat (refine GW.pl rfl rfl ?_))
  refine GW.min (v := (cap : Int)) rfl (Nat.le_of_ble_eq_true rfl) (by constructor <;> constructor <;> omega) (by split <;> omega) ?_
  refine GW.cpi rfl hAq (hs.1.trans h4) (Or.inl rfl) (Nat.le_of_ble_eq_true rfl) ?_ ?_
  · rw [hs.2.1, h5, gnew_len hq]
    refine ⟨by omega, by decide, by decide, by omega, by omega⟩
  (repeat (refine GW.pl rfl rfl ?_))
  refine GW.aret rfl rfl ⟨_, rfl, ?_⟩
  subst hq
  exact cp_ANew hW hh (by omega) (by omega) (fun j hj => ⟨by show 0 + j < _; omega, by show _ = s.getD (0 + j) 0; rw [Nat.zero_add]⟩)
/-- a string of an array that nobody else has -/
theorem G_sini {q : Nat} (hq : GAt g q 13) : GMr (d + 1) gk_J10_init_3 [aR q, aR a, aI 0] g (fun r g' => r = none ∧ g' = gsfi (gsfr g 91 q (some a)) 92 q 0) := by
  refine GM.of rfl rfl rfl ?_
  (repeat (refine GW.pl rfl rfl ?_))
  refine GW.oini rfl (And.right (show GAt _ _ _ by assumption)) (Nat.le_of_ble_eq_true rfl) ?_
  (repeat (refine GW.pl rfl rfl ?_))
  first | (refine GW.puti rfl rfl (by assumption) rfl (by first | omega | decide | (constructor <;> first | omega | decide)) ?_) | (refine GW.putz rfl rfl (by assumption) rfl (by first | omega | decide | (constructor <;> first | omega | decide)) ?_) | (refine GW.putb rfl rfl (by assumption) rfl (by first | omega | decide | (constructor <;> first | omega | decide)) ?_) | (refine GW.putc rfl rfl (by assumption) rfl (by first | omega | decide | (constructor <;> first | omega | decide)) ?_) | (refine GW.putr rfl rfl (by assumption) rfl ?_)
  (repeat (refine GW.pl rfl rfl ?_))
  first | (refine GW.puti rfl rfl (by assumption) rfl (by first | omega | decide | (constructor <;> first | omega | decide)) ?_) | (refine GW.putz rfl rfl (by assumption) rfl (by first | omega | decide | (constructor <;> first | omega | decide)) ?_) | (refine GW.putb rfl rfl (by assumption) rfl (by first | omega | decide | (constructor <;> first | omega | decide)) ?_) | (refine GW.putc rfl rfl (by assumption) rfl (by first | omega | decide | (constructor <;> first | omega | decide)) ?_) | (refine GW.putr rfl rfl (by assumption) rfl ?_)
  exact GW.ret rfl rfl ⟨_, rfl, rfl, rfl⟩
/-- a new string -/
def SNew (g g' : GH) (r : Option GV) (s : List Int) (c : Nat) : Prop := ∃ q a, r = vR (some q) ∧ Kp g g' (fun _ => False) c ∧ gsz g ≤ q ∧ q < gsz g' ∧ gsz g ≤ a ∧ a < gsz g' ∧ q ≠ a ∧ 1000 ≤ q ∧ SIs g' q s a
/-- a string is made: its cell, its bytes, its fields -/
theorem SNew.mk {g1 : GH} {r : Option GV} {q c : Nat} (hW : GWf g) (hq : q = gsz g) (hn : ANew (gnew g 13 0 4) g1 r s s.length c) : ∃ a, r = vR (some a) ∧ SNew g (gsfi (gsfr g1 91 q (some a)) 92 q 0) (vR (some q)) s (16 + c) := by
  obtain ⟨a, rfl, h1, h2, h3, h4, h5⟩ := hn
  refine ⟨a, rfl, q, a, rfl, ?_, by omega, ?_, ?_, h3, ?_, ?_, ?_⟩
  · refine Kp.le (((Kp.new hW).trans h1 (fun _ _ z => z)).trans ((Kp.fr (S := fun k => k = q) (F := 91) (n := q) (r := some a) rfl rfl).tr (Kp.fi rfl rfl)) (fun k hk z => ?_)) (by omega)
    omega
  · have h6 : gsz (gnew g 13 0 4) = gsz g + 1 := rfl
    show q < gsz g1
    have := h1.1
    omega
  · have h6 : gsz (gnew g 13 0 4) = gsz g + 1 := rfl
    omega
  · have h6 : gsz (gnew g 13 0 4) = gsz g + 1 := rfl
    omega
  · have := hW.2.2.1; omega
  · have h6 : gsz (gnew g 13 0 4) = gsz g + 1 := rfl
    have hc : gcls g1 q = 13 := (h1.2.2.2.1 q (by omega)).1.trans (gnew_cls hq)
    have hqa : q ≠ a := by omega
    exact ⟨hc, gfi_eq, (gfr_eq : gfr (gsfr g1 91 q (some a)) 91 q = some a), h5⟩
theorem G_newS (h : PIs g a s cap) {i m : Int} (hb : 0 ≤ i ∧ 0 < m ∧ i + m ≤ s.length) (hk : 1000 ≤ a ∨ ¬ (i = 0 ∧ m = cap)) : GMr (d + 4) gk_J21_newString [aR a, aI i, aI m] g (fun r g' => SNew g g' r (sub9 s i (i + m)) (28 + m.toNat)) := by
  refine GMr.wf (fun hW => ?_)
  have hc := hW.2.2.2.2 a
  rw [h.2.1] at hc
  have h6 := h.2.2.1
  have ha : a < gsz g := hW.lt (by rw [h.1]; decide)
  refine GM.of rfl rfl rfl ?_
  (repeat (refine GW.pl rfl rfl ?_))
  refine GW.br rfl rfl (by first | omega | decide | (constructor <;> first | omega | decide)) (fun h1 => ?_) (fun h1 => by first | (exfalso; omega) | exact absurd h1 (by decide))
  (repeat (refine GW.pl rfl rfl ?_))
  refine GW.new rfl rfl rfl (fun q hq hAq => ?_)
  (repeat (refine GW.pl rfl rfl ?_))
  refine GW.wf (fun hW1 => ?_)
  have hs := gnew_same (g := g) (c := 13) (L := 0) (s := 4) ha
  refine GW.c3 rfl rfl (by first | exact Or.inl rfl | exact Or.inr (grecv_at (by assumption)) | exact Or.inr (grecv_c (by assumption)) | exact Or.inr (grecv_c (SIs.cls (by assumption))) | exact Or.inr (grecv_at (BSb.at (by assumption)))) (by first | exact Or.inl (by decide) | exact Or.inr (gnewv_at (by assumption))) rfl (G_cpR (h.same hs) (b := i) (e := i + m) ⟨by omega, by omega, by omega⟩ (by omega)) ?_
  rintro r g1 hr
  have hlen := sub9_len (s := s) (b := i) (e := i + m) ⟨by omega, by omega, by omega⟩
  rw [show (i + m - i).toNat = (sub9 s i (i + m)).length by rw [hlen]] at hr
  have hA1 : GAt g1 q 13 := by
    obtain ⟨a9, -, hkp, -⟩ := hr
    exact hkp.at hW1 hAq rfl
  obtain ⟨a1, rfl, hS⟩ := SNew.mk hW hq hr
  (repeat (refine GW.pl rfl rfl ?_))
  refine GW.c3 rfl rfl (by first | exact Or.inl rfl | exact Or.inr (grecv_at (by assumption)) | exact Or.inr (grecv_c (by assumption)) | exact Or.inr (grecv_c (SIs.cls (by assumption))) | exact Or.inr (grecv_at (BSb.at (by assumption)))) (by first | exact Or.inl (by decide) | exact Or.inr (gnewv_at (by assumption))) rfl (G_sini hA1) ?_
  rintro _ _ ⟨rfl, rfl⟩
  refine GW.aret rfl rfl ⟨_, rfl, ?_⟩
  rw [show 28 + m.toNat = 16 + (12 + (sub9 s i (i + m)).length) by rw [hlen]; omega]
  exact hS
theorem G_chkB {b e l : Int} (h : 0 ≤ b ∧ b ≤ e ∧ e ≤ l ∧ l < 2147483648) : GE (d + 2) gk_J10_checkBoundsBeginEnd [aI b, aI e, aI l] g none := by
  have inner : ∀ (d : Nat) (r : Option Nat), GE (d + 1) gk_J22_checkFromToIndex [aI b, aI e, aI l, aQ r] g (vI b) := by
    intro d r
    refine GM.of rfl rfl rfl ?_
    (repeat (refine GW.pl rfl rfl ?_))
    refine GW.br rfl rfl (by first | omega | decide | (constructor <;> first | omega | decide)) (fun h1 => by first | (exfalso; omega) | exact absurd h1 (by decide)) (fun h1 => ?_)
    (repeat (refine GW.pl rfl rfl ?_))
    refine GW.br rfl rfl (by first | omega | decide | (constructor <;> first | omega | decide)) (fun h2 => by first | (exfalso; omega) | exact absurd h2 (by decide)) (fun h2 => ?_)
    (repeat (refine GW.pl rfl rfl ?_))
    refine GW.br rfl rfl (by first | omega | decide | (constructor <;> first | omega | decide)) (fun h3 => ?_) (fun h3 => by first | (exfalso; omega) | exact absurd h3 (by decide))
    (repeat (refine GW.pl rfl rfl ?_))
    exact GW.ir1 rfl rfl ⟨by omega, by omega⟩ ⟨_, rfl, rfl, rfl⟩
  refine GM.of rfl rfl rfl ?_
  (repeat (refine GW.pl rfl rfl ?_))
  refine GW.c4 rfl rfl (by first | exact Or.inl rfl | exact Or.inr (grecv_at (by assumption)) | exact Or.inr (grecv_c (by assumption)) | exact Or.inr (grecv_c (SIs.cls (by assumption))) | exact Or.inr (grecv_at (BSb.at (by assumption)))) (by first | exact Or.inl (by decide) | exact Or.inr (gnewv_at (by assumption))) rfl (inner d (some 335)) ?_; rintro _ _ ⟨rfl, rfl⟩
  (repeat (refine GW.pl rfl rfl ?_))
  exact GW.ret rfl rfl ⟨_, rfl, rfl, rfl⟩
/-- substring: the same string, the empty one, a new one -/
theorem G_subs (h : SIs g n s a) {b e : Int} (hb : 0 ≤ b ∧ b ≤ e ∧ e ≤ s.length) : GMr (d + 5) gk_J10_substring_2 [aR n, aI b, aI e] g (fun r g' => (r = vR (some n) ∧ b = 0 ∧ e = s.length ∧ g' = g) ∨ (r = vR (some 260) ∧ b = e ∧ g' = g) ∨ SNew g g' r (sub9 s b e) (28 + (e - b).toNat)) := by
  refine GMr.wf (fun hW => ?_)
  have hh := h
  obtain ⟨h1, h2, h3, h4⟩ := h
  have hc := hW.2.2.2.2 a
  rw [h4.2.1] at hc
  have other : ¬ (b = 0 ∧ e = s.length) → GW (d + 4) gm_J10_substring_2 14 [some (aR n), some (aI b), some (aI e), some (aI s.length), none] [] g (fun r g' => ∃ v, r = .inl v ∧ ((v = vR (some n) ∧ b = 0 ∧ e = s.length ∧ g' = g) ∨ (v = vR (some 260) ∧ b = e ∧ g' = g) ∨ SNew g g' v (sub9 s b e) (28 + (e - b).toNat))) := by
    intro hne
    (repeat (refine GW.pl rfl rfl ?_))
    refine GW.c1 rfl rfl (by first | exact Or.inl rfl | exact Or.inr (grecv_at (by assumption)) | exact Or.inr (grecv_c (by assumption)) | exact Or.inr (grecv_c (SIs.cls (by assumption))) | exact Or.inr (grecv_at (BSb.at (by assumption)))) (by first | exact Or.inl (by decide) | exact Or.inr (gnewv_at (by assumption))) rfl (G_isL1 hh) ?_; rintro _ _ ⟨rfl, rfl⟩
    refine GW.br rfl rfl (by first | omega | decide | (constructor <;> first | omega | decide)) (fun h5 => by first | (exfalso; omega) | exact absurd h5 (by decide)) (fun h5 => ?_)
    (repeat (first | (refine GW.pl rfl rfl ?_) | (refine GW.geti rfl rfl (by first | exact GHas.at (by assumption) rfl | exact GHas.k (by assumption) rfl rfl) (by first | assumption | rfl) (fun _ => ?_)) | (refine GW.getr rfl rfl (by first | exact GHas.at (by assumption) rfl | exact GHas.k (by assumption) rfl rfl) (by first | assumption | rfl) ?_)))
    by_cases hz : b = e
    · have key : ∀ d, GE (d + 1) gk_J21_newString [aR a, aI b, aI (e - b)] g (vR (some 260)) := by
        intro d
        refine GM.of rfl rfl rfl ?_
        (repeat (refine GW.pl rfl rfl ?_))
        refine GW.br rfl rfl (by first | omega | decide | (constructor <;> first | omega | decide)) (fun h6 => by first | (exfalso; omega) | exact absurd h6 (by decide)) (fun h6 => ?_)
        (repeat (refine GW.pl rfl rfl ?_))
        exact GW.aret rfl rfl ⟨_, rfl, rfl, rfl⟩
      refine GW.c3 rfl rfl (by first | exact Or.inl rfl | exact Or.inr (grecv_at (by assumption)) | exact Or.inr (grecv_c (by assumption)) | exact Or.inr (grecv_c (SIs.cls (by assumption))) | exact Or.inr (grecv_at (BSb.at (by assumption)))) (by first | exact Or.inl (by decide) | exact Or.inr (gnewv_at (by assumption))) rfl (key _) ?_; rintro _ _ ⟨rfl, rfl⟩
      (repeat (refine GW.pl rfl rfl ?_))
      exact GW.aret rfl rfl ⟨_, rfl, Or.inr (Or.inl ⟨rfl, hz, rfl⟩)⟩
    · refine GW.c3 rfl rfl (by first | exact Or.inl rfl | exact Or.inr (grecv_at (by assumption)) | exact Or.inr (grecv_c (by assumption)) | exact Or.inr (grecv_c (SIs.cls (by assumption))) | exact Or.inr (grecv_at (BSb.at (by assumption)))) (by first | exact Or.inl (by decide) | exact Or.inr (gnewv_at (by assumption))) rfl (G_newS (d := d) h4 (i := b) (m := e - b) ⟨by omega, by omega, by omega⟩ (Or.inr (by omega))) ?_
      rintro r g' ⟨q, a', rfl, hr⟩
      (repeat (refine GW.pl rfl rfl ?_))
      refine GW.aret rfl rfl ⟨_, rfl, Or.inr (Or.inr ?_)⟩
      rw [show b + (e - b) = e by omega] at hr
      exact ⟨q, a', rfl, hr⟩
  refine GM.of rfl rfl rfl ?_
  (repeat (refine GW.pl rfl rfl ?_))
  refine GW.c1 rfl rfl (by first | exact Or.inl rfl | exact Or.inr (grecv_at (by assumption)) | exact Or.inr (grecv_c (by assumption)) | exact Or.inr (grecv_c (SIs.cls (by assumption))) | exact Or.inr (grecv_at (BSb.at (by assumption)))) (by first | exact Or.inl (by decide) | exact Or.inr (gnewv_at (by assumption))) rfl (G_slen hh) ?_; rintro _ _ ⟨rfl, rfl⟩
  (repeat (refine GW.pl rfl rfl ?_))
  refine GW.c3 rfl rfl (by first | exact Or.inl rfl | exact Or.inr (grecv_at (by assumption)) | exact Or.inr (grecv_c (by assumption)) | exact Or.inr (grecv_c (SIs.cls (by assumption))) | exact Or.inr (grecv_at (BSb.at (by assumption)))) (by first | exact Or.inl (by decide) | exact Or.inr (gnewv_at (by assumption))) rfl (G_chkB ⟨hb.1, hb.2.1, hb.2.2, by omega⟩) ?_; rintro _ _ ⟨rfl, rfl⟩
  (repeat (refine GW.pl rfl rfl ?_))
  refine GW.br rfl rfl (by first | omega | decide | (constructor <;> first | omega | decide)) (fun h5 => ?_) (fun h5 => ?_)
  · exact other (by omega)
  · (repeat (refine GW.pl rfl rfl ?_))
    refine GW.br rfl rfl (by first | omega | decide | (constructor <;> first | omega | decide)) (fun h6 => ?_) (fun h6 => ?_)
    · exact other (by omega)
    · (repeat (refine GW.pl rfl rfl ?_))
      exact GW.aret rfl rfl ⟨_, rfl, Or.inl ⟨rfl, h5, h6, rfl⟩⟩
theorem G_subs1 (h : SIs g n s a) {b : Int} (hb : 0 ≤ b ∧ b ≤ s.length) : GMr (d + 6) gk_J10_substring [aR n, aI b] g (fun r g' => (r = vR (some n) ∧ b = 0 ∧ g' = g) ∨ (r = vR (some 260) ∧ b = s.length ∧ g' = g) ∨ SNew g g' r (sub9 s b s.length) (28 + (s.length - b).toNat)) := by
  refine GM.of rfl rfl rfl ?_
  have h1 := h.1
  (repeat (refine GW.pl rfl rfl ?_))
  refine GW.c1 rfl rfl (by first | exact Or.inl rfl | exact Or.inr (grecv_at (by assumption)) | exact Or.inr (grecv_c (by assumption)) | exact Or.inr (grecv_c (SIs.cls (by assumption))) | exact Or.inr (grecv_at (BSb.at (by assumption)))) (by first | exact Or.inl (by decide) | exact Or.inr (gnewv_at (by assumption))) rfl (G_slen h) ?_; rintro _ _ ⟨rfl, rfl⟩
  refine GW.c3 rfl rfl (by first | exact Or.inl rfl | exact Or.inr (grecv_at (by assumption)) | exact Or.inr (grecv_c (by assumption)) | exact Or.inr (grecv_c (SIs.cls (by assumption))) | exact Or.inr (grecv_at (BSb.at (by assumption)))) (by first | exact Or.inl (by decide) | exact Or.inr (gnewv_at (by assumption))) rfl (G_subs h (b := b) (e := s.length) ⟨hb.1, hb.2, Int.le_refl _⟩) ?_
  rintro r g' (⟨rfl, h1, h2, h3⟩ | ⟨rfl, h1, h3⟩ | ⟨q, a', rfl, h1⟩)
  · exact GW.aret rfl rfl ⟨_, rfl, Or.inl ⟨rfl, h1, h3⟩⟩
  · exact GW.aret rfl rfl ⟨_, rfl, Or.inr (Or.inl ⟨rfl, h1, h3⟩)⟩
  · exact GW.aret rfl rfl ⟨_, rfl, Or.inr (Or.inr ⟨q, a', rfl, h1⟩)⟩
/-- String.valueOf(char) -/
theorem G_valC {c : Int} (hc : 0 ≤ c ∧ c < 128) : GMr (d + 2) gk_J10_valueOf [aI c] g (fun r g' => SNew g g' r [c] 29) := by
  refine GMr.wf (fun hW => ?_)
  have inner : ∀ (d : Nat) (g : GH), GMr (d + 1) gk_J21_toBytes [aI c] g (fun r g' => ANew g g' r [c] 1 13) := by
    intro d g
    refine GMr.wf (fun hW => ?_)
    refine GM.of rfl rfl rfl ?_
    (repeat (refine GW.pl rfl rfl ?_))
    refine GW.arr rfl rfl (by decide) (fun q hq hAq => ?_)
    (repeat (refine GW.pl rfl rfl ?_))
    refine GW.i2b rfl (by omega) ?_
    refine GW.bast (L := 1) rfl hAq (gnew_len (c := 101) (L := 1) (s := 1) hq) (by decide) (by omega) ?_
    refine GW.aret rfl rfl ⟨_, rfl, q, rfl, ?_, by omega, by show q < gsz g + 1; omega, hAq.2, hAq.1, gnew_len (c := 101) (L := 1) (s := 1) hq, Nat.le_refl _, fun j hj => ?_, fun x hx => ?_⟩
    · exact ((Kp.new hW).trans (Kp.ai (S := fun k => k = q) rfl) (fun k hk z => by omega))
    · have : j = 0 := by simp at hj; omega
      subst this
      exact gai_eq
    · rw [List.mem_singleton] at hx; omega
  refine GM.of rfl rfl rfl ?_
  (repeat (refine GW.pl rfl rfl ?_))
  refine GW.br rfl rfl (by first | omega | decide | (constructor <;> first | omega | decide)) (fun h1 => by first | (exfalso; omega) | exact absurd h1 (by decide)) (fun h1 => ?_)
  (repeat (refine GW.pl rfl rfl ?_))
  refine GW.c1 rfl rfl (by first | exact Or.inl rfl | exact Or.inr (grecv_at (by assumption)) | exact Or.inr (grecv_c (by assumption)) | exact Or.inr (grecv_c (SIs.cls (by assumption))) | exact Or.inr (grecv_at (BSb.at (by assumption)))) (by first | exact Or.inl (by decide) | exact Or.inr (gnewv_at (by assumption))) rfl (G_canE hc) ?_; rintro _ _ ⟨rfl, rfl⟩
  refine GW.br rfl rfl (by first | omega | decide | (constructor <;> first | omega | decide)) (fun h2 => by first | (exfalso; omega) | exact absurd h2 (by decide)) (fun h2 => ?_)
  (repeat (refine GW.pl rfl rfl ?_))
  refine GW.new rfl rfl rfl (fun q hq hAq => ?_)
  (repeat (refine GW.pl rfl rfl ?_))
  refine GW.wf (fun hW1 => ?_)
  refine GW.c1 rfl rfl (by first | exact Or.inl rfl | exact Or.inr (grecv_at (by assumption)) | exact Or.inr (grecv_c (by assumption)) | exact Or.inr (grecv_c (SIs.cls (by assumption))) | exact Or.inr (grecv_at (BSb.at (by assumption)))) (by first | exact Or.inl (by decide) | exact Or.inr (gnewv_at (by assumption))) rfl (inner d _) ?_
  rintro r g1 hr
  have hA1 : GAt g1 q 13 := by
    obtain ⟨a9, -, hkp, -⟩ := hr
    exact hkp.at hW1 hAq rfl
  obtain ⟨a1, rfl, hS⟩ := SNew.mk hW hq hr
  (repeat (refine GW.pl rfl rfl ?_))
  refine GW.c3 rfl rfl (by first | exact Or.inl rfl | exact Or.inr (grecv_at (by assumption)) | exact Or.inr (grecv_c (by assumption)) | exact Or.inr (grecv_c (SIs.cls (by assumption))) | exact Or.inr (grecv_at (BSb.at (by assumption)))) (by first | exact Or.inl (by decide) | exact Or.inr (gnewv_at (by assumption))) rfl (G_sini hA1) ?_
  rintro _ _ ⟨rfl, rfl⟩
  exact GW.aret rfl rfl ⟨_, rfl, hS⟩
/-- the same bytes? -/
theorem G_leq {b : Nat} {t : List Int} (h : PIs g a s s.length) (h' : PIs g b t t.length) : GE (d + 1) gk_J21_equals [aR a, aR b] g (vI (if s = t then 1 else 0)) := by
  refine GMr.wf (fun hW => ?_)
  have hc := hW.2.2.2.2 a
  rw [h.2.1] at hc
  have hc' := hW.2.2.2.2 b
  rw [h'.2.1] at hc'
  refine GM.of rfl rfl rfl ?_
  (repeat (refine GW.pl rfl rfl ?_))
  refine GW.alen rfl h.1 rfl h.2.1 (fun hl => ?_)
  (repeat (refine GW.pl rfl rfl ?_))
  refine GW.alen rfl h'.1 rfl h'.2.1 (fun hl => ?_)
  refine GW.br rfl rfl (by first | omega | decide | (constructor <;> first | omega | decide)) (fun h1 => ?_) (fun h1 => ?_)
  · (repeat (refine GW.pl rfl rfl ?_))
    rw [if_neg (fun z => h1 (by rw [z]))]
    exact GW.ir2 rfl rfl (by decide) ⟨_, rfl, rfl, rfl⟩
  (iterate 2 (refine GW.pl rfl rfl ?_))
  have loop : ∀ (m k : Nat), m + k = s.length → (∀ j, j < k → s.getD j 0 = t.getD j 0) → GW d gm_J21_equals 7 [some (aR a), some (aR b), some (aI k)] [] g (fun r g' => ∃ v, r = .inl v ∧ vI (if s = t then 1 else 0) = v ∧ g = g') := by
    intro m
    induction m with
    | zero =>
      intro k hk hj
      (repeat (refine GW.pl rfl rfl ?_))
      refine GW.alen rfl h.1 rfl h.2.1 (fun hl => ?_)
      refine GW.br rfl rfl (by first | omega | decide | (constructor <;> first | omega | decide)) (fun h2 => ?_) (fun h2 => by first | (exfalso; omega) | exact absurd h2 (by decide))
      (repeat (refine GW.pl rfl rfl ?_))
      have e : s = t := List.ext_getElem (by omega) (fun j h3 h4 => by
        have := hj j (by omega)
        rw [List.getD_eq_getElem?_getD, List.getD_eq_getElem?_getD, List.getElem?_eq_getElem h3, List.getElem?_eq_getElem h4] at this
        exact this)
      rw [if_pos e]
      exact GW.ir2 rfl rfl (by decide) ⟨_, rfl, rfl, rfl⟩
    | succ m ih =>
      intro k hk hj
      (repeat (refine GW.pl rfl rfl ?_))
      refine GW.alen rfl h.1 rfl h.2.1 (fun hl => ?_)
      refine GW.br rfl rfl (by first | omega | decide | (constructor <;> first | omega | decide)) (fun h2 => by first | (exfalso; omega) | exact absurd h2 (by decide)) (fun h2 => ?_)
      (repeat (refine GW.pl rfl rfl ?_))
      refine GW.bald (v := s.getD k 0) rfl h.1 h.2.1 (by omega) (h.2.2.2.1 k (by omega)) (fun hv => ?_)
      (repeat (refine GW.pl rfl rfl ?_))
      refine GW.bald (v := t.getD k 0) rfl h'.1 h'.2.1 (by omega) (h'.2.2.2.1 k (by omega)) (fun hv' => ?_)
      refine GW.br rfl rfl (by first | omega | decide | (constructor <;> first | omega | decide)) (fun h3 => ?_) (fun h3 => ?_)
      · (iterate 2 (refine GW.pl rfl rfl ?_))
        refine ih (k + 1) (by omega) (fun j hj2 => ?_)
        rcases Nat.lt_or_ge j k with h4 | h4
        · exact hj j h4
        · rw [show j = k by omega]; exact h3
      · (repeat (refine GW.pl rfl rfl ?_))
        rw [if_neg (fun z => h3 (by rw [z]))]
        exact GW.ir2 rfl rfl (by decide) ⟨_, rfl, rfl, rfl⟩
  exact loop s.length 0 rfl (fun j hj => by omega)
theorem G_seq {n' a' : Nat} {t : List Int} (h : SIs g n s a) (h' : SIs g n' t a') (hnn : n = n' → s = t) (hk : 1000 ≤ n ∨ 1000 ≤ n' ∨ n = n') : GE (d + 2) gk_J10_equals [aR n, aR n'] g (vI (if s = t then 1 else 0)) := by
  have hg : gcan2 g (some n) (some n') = true := by
    have e1 : gok g (some n) = true := gok_c (by rw [h.1]; decide)
    have e2 : gok g (some n') = true := gok_c (by rw [h'.1]; decide)
    unfold gcan2
    rw [e1, e2]
    rcases hk with hk | hk | hk <;> simp [hk]
  obtain ⟨h1, h2, h3, h4⟩ := h
  obtain ⟨h1', h2', h3', h4'⟩ := h'
  refine GM.of rfl rfl rfl ?_
  (repeat (refine GW.pl rfl rfl ?_))
  refine GW.ane rfl hg (fun h5 => ?_) (fun h5 => ?_)
  · (repeat (refine GW.pl rfl rfl ?_))
    refine GW.isS rfl h1' ?_
    refine GW.br rfl rfl (by first | omega | decide | (constructor <;> first | omega | decide)) (fun h6 => by first | (exfalso; omega) | exact absurd h6 (by decide)) (fun h6 => ?_)
    (repeat (refine GW.pl rfl rfl ?_))
    refine GW.cast rfl (gcast_c h1' rfl rfl) ?_
    (repeat (refine GW.pl rfl rfl ?_))
    refine GW.br rfl rfl (by first | omega | decide | (constructor <;> first | omega | decide)) (fun h7 => by first | (exfalso; omega) | exact absurd h7 (by decide)) (fun h7 => ?_)
    (repeat (refine GW.pl rfl rfl ?_))
    refine GW.geti (v := 0) rfl rfl (GHas.k h1 rfl rfl) h2 (fun _ => ?_)
    (repeat (refine GW.pl rfl rfl ?_))
    refine GW.geti (v := 0) rfl rfl (GHas.k h1' rfl rfl) h2' (fun _ => ?_)
    refine GW.br rfl rfl (by first | omega | decide | (constructor <;> first | omega | decide)) (fun h8 => by first | (exfalso; omega) | exact absurd h8 (by decide)) (fun h8 => ?_)
    (repeat (refine GW.pl rfl rfl ?_))
    refine GW.getr (v := some a) rfl rfl (GHas.k h1 rfl rfl) h3 ?_
    (repeat (refine GW.pl rfl rfl ?_))
    refine GW.getr (v := some a') rfl rfl (GHas.k h1' rfl rfl) h3' ?_
    refine GW.c2 rfl rfl (by first | exact Or.inl rfl | exact Or.inr (grecv_at (by assumption)) | exact Or.inr (grecv_c (by assumption)) | exact Or.inr (grecv_c (SIs.cls (by assumption))) | exact Or.inr (grecv_at (BSb.at (by assumption)))) (by first | exact Or.inl (by decide) | exact Or.inr (gnewv_at (by assumption))) rfl (G_leq h4 h4') ?_; rintro _ _ ⟨rfl, rfl⟩
    by_cases hst : s = t
    · rw [if_pos hst]
      refine GW.br rfl rfl (by first | omega | decide | (constructor <;> first | omega | decide)) (fun h8 => by first | (exfalso; omega) | exact absurd h8 (by decide)) (fun h8 => ?_)
      (repeat (refine GW.pl rfl rfl ?_))
      exact GW.ir2 rfl rfl (by decide) ⟨_, rfl, rfl, rfl⟩
    · rw [if_neg hst]
      refine GW.br rfl rfl (by first | omega | decide | (constructor <;> first | omega | decide)) (fun h8 => ?_) (fun h8 => by first | (exfalso; omega) | exact absurd h8 (by decide))
      (repeat (refine GW.pl rfl rfl ?_))
      exact GW.ir2 rfl rfl (by decide) ⟨_, rfl, rfl, rfl⟩
  · (repeat (refine GW.pl rfl rfl ?_))
    rw [if_pos (hnn (by cases h5; rfl))]
    exact GW.ir2 rfl rfl (by decide) ⟨_, rfl, rfl, rfl⟩
end Cp
