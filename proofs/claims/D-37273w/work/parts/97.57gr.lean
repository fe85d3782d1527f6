-- C
set_option maxRecDepth 100000
/-! THE READER: group -/
section GR
variable {d i a n q x b m c cap cap' c0 c1 st0 st1 cf : Nat} {b1 : Int} {M : GMeth} {ls : GL} {st : List GV} {xs xs' : List (Option Nat)} {ps qs : List SPart} {p : SPart} {s l l1 f acc : List Int} {S S0 S1 S' : BS} {F : Nat → Prop} {Q : GO → BS → Prop} {y : Option Nat} {o : Obj} {R : PR (Nat × Nat × List SPart)} {r : GO}
theorem CW.pp {kind mid tag : Nat} {v0 v1 : GV} (hC : M.2.2.1[i]? = some (60, a, b1)) (hs : gsites[a]? = some (kind, mid, tag, 2)) (htag : tag = 0 ∨ ∃ n, (some v0 : Option GV) = some (aR n) ∧ ocls (S.1 n) = tag ∧ ((S.1 n).1 == 0) = false) (hin : (kind ≠ 4 ∧ kind ≠ 11) ∨ ∃ n, (some v0 : Option GV) = some (aR n) ∧ 1000 ≤ n) (hr : Nat.ble ((st.map gcat).sum) 8 = true) (hh : ghnd M.2.2.2 i = none) (h : BM d mid [v0, v1] S (PpX n q cf s l S cap F ps R))
    (k : ∀ l1 c1 st1 qs S' cap' xs', R = .inr (l1, c1, st1, qs) → l1.length < l.length → qs.length ≤ 2 * (l.length - l1.length) → Fr S S' (fun m => m = n ∨ m = q) (400 * (l.length - l1.length) + 6 * (cap' - cap)) → cap ≤ cap' → (cap' = cap ∨ cap' ≤ 2 * (ps.length + qs.length) + 10) → RdAt S' n s l1 → Fi S' 76 n st1 → Fi S' 77 n c1 → Ob S' q (oAl xs' cap') → PtsE S' F xs' (ps ++ qs) → BW d M (i + 1) ls st S' Q)
    (kx : ∀ f S1 r S', R = .inl f → Fr S S1 (fun m => m = n ∨ m = q) (400 * l.length + cf) → Thr9 5 42 ((s.length : Int) - f.length) S1 r S' → Q r S') : BW d M i ls (v1 :: v0 :: st) S Q := by
  refine CW.x2 hC hs htag hin hr hh h (fun w S' z => ?_) (fun E e S' z => ?_)
  · rcases R with f | ⟨l1, c1, st1, qs⟩
    · obtain ⟨S1, _, z1, z2, _⟩ := z
      cases z2
    · obtain ⟨z1, z2, z3, cap', xs', g1, g2, g3, g4, g5, g6, g7, g8⟩ := z
      cases z1
      exact k l1 c1 st1 qs S' cap' xs' rfl z2 z3 g1 g2 g3 g4 g5 g6 g7 g8
  · rcases R with f | ⟨l1, c1, st1, qs⟩
    · obtain ⟨S1, z1, z2⟩ := z
      exact kx f S1 _ S' rfl z1 z2
    · cases z.1
def grR (c0 st0 : Nat) (l : List Int) : PR (Nat × Nat × List SPart) := if c0 < 2 then (match pGrp 12 st0 [] l.tail with
  | .inl f => .inl f
  | .inr (l1, st1, ps) => .inr (l1, c0 + 1, st1, (4, c0 + 1, [], false) :: ps ++ [(5, c0 + 1, [], false)])) else .inl l
theorem pPlain_st {l1 : List Int} {pt : SPart} (h : pPlain st0 l = .inr (l1, st1, pt)) (hs : st0 ≤ 2) : st1 ≤ 2 := by
  unfold pPlain at h
  dsimp only at h
  repeat' (split at h)
  all_goals first
    | (cases h; done)
    | (cases h; exact hs)
    | (cases h; omega)
theorem pGrp_end {k st : Nat} {acc : List SPart} (h : hd l = 41) : pGrp k st acc l = .inr (l.tail, st, acc) := by
  cases k <;> (unfold pGrp; exact if_pos h)
theorem pGrp_f {k st : Nat} {acc : List SPart} (h : ¬ hd l = 41) (e : pPlain st l = .inl f) : pGrp (k + 1) st acc l = .inl f := by
  unfold pGrp
  rw [if_neg h, e]
theorem pGrp_s {k st st1 : Nat} {acc : List SPart} {pt : SPart} {l1 : List Int} (h : ¬ hd l = 41) (e : pPlain st l = .inr (l1, st1, pt)) : pGrp (k + 1) st acc l = pGrp k st1 (acc ++ [pt]) l1 := by
  conv => lhs; unfold pGrp
  rw [if_neg h, e]
theorem C_group {l0 : List Int} (h : RdAt S n s (40 :: l0)) (hx : Ob S x (oOwn 9)) (hxq : Fe S 66 x (some q)) (hq : Ob S q (oAl xs cap)) (hE : PtsE S F xs ps) (hF : ∀ m, S.1 m = oNil → F m) (hFn : ¬ F n) (hFq : ¬ F q) (h76 : Fi S 76 n st0) (h77 : Fi S 77 n c0) (hst : st0 ≤ 2) (hc0 : c0 ≤ 2) (hlen : ps.length + 2 * l0.length + 2 ≤ 600) (hT : S.2.2.2 < 800000000) : BM (d + 10) gk_X3_group [aR n, aR x] S (PpX n q 9000 s (40 :: l0) S cap F ps (grR c0 st0 (40 :: l0))) := by
  have hn := h.ob
  have hAt := h.at
  have hR := h.R
  have h75 := h.fi
  have hA := Fr.rf (S := S) (W := fun m => m = n ∨ m = q)
  refine BM.of rfl rfl rfl ?_
  (repeat (first | (refine BW.pl rfl rfl ?_) | (refine CW.geti rfl rfl (by assumption) rfl rfl (by assumption) (fun _ => ?_)) | (refine CW.getr rfl rfl (by assumption) rfl rfl (by assumption) ?_)))
  by_cases z1 : c0 < 2
  · refine BW.br rfl rfl (by first | omega | decide | (constructor <;> first | omega | decide)) (fun w => by first | (exfalso; omega) | exact absurd w (by decide)) (fun w => ?_)
    (repeat (refine BW.pl rfl rfl ?_))
    refine BW.must (d := d + 5) rfl rfl (by decide) (by decide) rfl h (Or.inr rfl) rfl (fun _ => ?_) (fun q S' w _ => absurd w (by decide))
    (repeat (first | (refine BW.pl rfl rfl ?_) | (refine CW.geti rfl rfl (by assumption) rfl rfl (by assumption) (fun _ => ?_)) | (refine CW.getr rfl rfl (by assumption) rfl rfl (by assumption) ?_)))
    first | (refine CW.putr rfl rfl (by assumption) rfl (by decide) (fun S1 hP1 h75 => ?_)) | (refine CW.puti rfl (by assumption) rfl (by decide) (by first | exact Or.inl ⟨rfl, by first | omega | decide | (constructor <;> first | omega | decide)⟩ | exact Or.inr (Or.inl ⟨rfl, by first | omega | decide | (constructor <;> first | omega | decide)⟩) | exact Or.inr (Or.inr (Or.inl ⟨rfl, by first | omega | decide | (constructor <;> first | omega | decide)⟩)) | exact Or.inr (Or.inr (Or.inr ⟨rfl, by first | omega | decide | (constructor <;> first | omega | decide)⟩))) (fun S1 hP1 h75 => ?_))
    replace hxq := hxq.pu hP1 (Or.inl (Nat.ne_of_beq_eq_false rfl))
    replace h76 := h76.pu hP1 (Or.inl (Nat.ne_of_beq_eq_false rfl))
    replace h77 := h77.pu hP1 (Or.inl (Nat.ne_of_beq_eq_false rfl))
    replace hE := hE.pu hP1 hFn
    replace hx := hx.pu hP1 trivial
    replace hq := hq.pu hP1 trivial
    replace hn := hn.pu hP1 trivial
    replace hA := hA.f1 hP1.fr (fun _ => Or.inl rfl)
    have h := h.on hP1 h75 (by simp; omega)
    (repeat (first | (refine BW.pl rfl rfl ?_) | (refine CW.geti rfl rfl (by assumption) rfl rfl (by assumption) (fun _ => ?_)) | (refine CW.getr rfl rfl (by assumption) rfl rfl (by assumption) ?_)))
    refine CW.newO (L := 4) (c := 8) rfl rfl rfl rfl (fun m S3 hN => ?_)
    have hmz := hA.nil hN.nil
    replace hxq := hxq.fr hN.fr ⟨⟨hx.old (oNe rfl), Nat.le_of_ble_eq_true rfl⟩, Sep.no⟩
    replace h76 := h76.fr hN.fr ⟨⟨hn.old (oNe rfl), Nat.le_of_ble_eq_true rfl⟩, Sep.no⟩
    replace h77 := h77.fr hN.fr ⟨⟨hn.old (oNe rfl), Nat.le_of_ble_eq_true rfl⟩, Sep.no⟩
    replace h75 := h75.fr hN.fr ⟨⟨hn.old (oNe rfl), Nat.le_of_ble_eq_true rfl⟩, Sep.no⟩
    replace h := h.fr hN.fr ⟨NoS.no, Sep.no⟩
    replace hx := hx.fr hN.fr ⟨oNe rfl, Sep.no⟩
    replace hq := hq.fr hN.fr ⟨oNe rfl, Sep.no⟩
    replace hn := hn.fr hN.fr ⟨oNe rfl, Sep.no⟩
    replace hA := hA.nw hN
    have hm := hN.ob
    have hmk := hN.1
    have hE := hE.new hN
    have hGn : ¬ (F n ∧ n ≠ m) := fun z => hFn z.1
    (repeat (refine BW.pl rfl rfl ?_))
    refine BW.kst (fun hK => ?_)
    have hAu := hA.t
    refine CW.addPart (d := d + 3) (p := (4, c0 + 1, [], false)) rfl rfl (by first | exact Or.inl rfl | exact Or.inr rfl) rfl rfl (by first | exact Or.inl rfl | exact Or.inr rfl) rfl hm hmk hq hE (hF m hmz) hFq ⟨256, rfl, hK 256 (by decide)⟩ ⟨(Nat.le_of_ble_eq_true rfl), (show c0 + 1 < 100 by omega)⟩ (by omega) (by omega) rfl rfl rfl (fun S4 cap4 xs4 hq4 hE4 hF4 hc1 hc2 => ?_)
    replace hxq := hxq.fr hF4 ⟨⟨hx.old (oNe rfl), Nat.le_of_ble_eq_true rfl⟩, (Sep.two (Sep.ne (hx.ne hm (ownNe rfl))) (Sep.ne (hx.ne hq (oNe rfl))))⟩
    replace h76 := h76.fr hF4 ⟨⟨hn.old (oNe rfl), Nat.le_of_ble_eq_true rfl⟩, (Sep.two (Sep.ne (hn.ne hm (ownNe rfl))) (Sep.ne (hn.ne hq (oNe rfl))))⟩
    replace h77 := h77.fr hF4 ⟨⟨hn.old (oNe rfl), Nat.le_of_ble_eq_true rfl⟩, (Sep.two (Sep.ne (hn.ne hm (ownNe rfl))) (Sep.ne (hn.ne hq (oNe rfl))))⟩
    replace h75 := h75.fr hF4 ⟨⟨hn.old (oNe rfl), Nat.le_of_ble_eq_true rfl⟩, (Sep.two (Sep.ne (hn.ne hm (ownNe rfl))) (Sep.ne (hn.ne hq (oNe rfl))))⟩
    replace h := h.fr hF4 ⟨(NoS.two (NoS.one hm rfl) (NoS.one hq rfl)), (Sep.two (Sep.ne (hn.ne hm (ownNe rfl))) (Sep.ne (hn.ne hq (oNe rfl))))⟩
    replace hx := hx.fr hF4 ⟨oNe rfl, (Sep.two (Sep.ne (hx.ne hm (ownNe rfl))) (Sep.ne (hx.ne hq (oNe rfl))))⟩
    replace hn := hn.fr hF4 ⟨oNe rfl, (Sep.two (Sep.ne (hn.ne hm (ownNe rfl))) (Sep.ne (hn.ne hq (oNe rfl))))⟩
    replace hA := hA.f2 hF4 (fun z => absurd hmz z) (fun _ => Or.inr rfl)
    (iterate 2 (refine BW.pl rfl rfl ?_))
    have hFF : ∀ m, S4.1 m = oNil → F m := fun m z => hF m (hA.nil z)
    have fin : ∀ (l4 : List Int) (many : Nat) (ac : List SPart) (st1 : Nat) (S5 : BS) (cap5 c5 : Nat) (xs5 : List (Option Nat)), pGrp 12 st0 [] l0 = .inr (l4, st1, ac) → RdAt S5 n s (41 :: l4) → Ob S5 x (oOwn 9) → Fe S5 66 x (some q) → Ob S5 q (oAl xs5 cap5) → PtsE S5 F xs5 (ps ++ (4, c0 + 1, [], false) :: ac) → Fi S5 76 n st1 → Fi S5 77 n c0 → Fr S S5 (fun m => m = n ∨ m = q) c5 → c5 ≤ 17 + 400 * (l0.length - (41 :: l4).length) + 6 * (cap5 - cap) → cap ≤ cap5 → (cap5 = cap ∨ cap5 ≤ 2 * (ps.length + ac.length + 1) + 10) → ac.length + (41 :: l4).length ≤ l0.length → BW (d + 9) gm_X3_group 50 [some (aR n), some (aR x), some (aI (c0 + 1)), some (aI many)] [] S5 (PpX n q 9000 s (40 :: l0) S cap F ps (grR c0 st0 (40 :: l0))) := by
      intro l4 many ac st1 S5 cap5 c5 xs5 hsp h hx hxq hq hE h76 h77 hA hc5 hcap1 hcap2 hac
      have hn := h.ob
      have hAt3 := h.at
      have h75 := h.fi
      (repeat (first | (refine BW.pl rfl rfl ?_) | (refine CW.geti rfl rfl (by assumption) rfl rfl (by assumption) (fun _ => ?_)) | (refine CW.getr rfl rfl (by assumption) rfl rfl (by assumption) ?_)))
      first | (refine CW.putr rfl rfl (by assumption) rfl (by decide) (fun S6 hP6 h75 => ?_)) | (refine CW.puti rfl (by assumption) rfl (by decide) (by first | exact Or.inl ⟨rfl, by first | omega | decide | (constructor <;> first | omega | decide)⟩ | exact Or.inr (Or.inl ⟨rfl, by first | omega | decide | (constructor <;> first | omega | decide)⟩) | exact Or.inr (Or.inr (Or.inl ⟨rfl, by first | omega | decide | (constructor <;> first | omega | decide)⟩)) | exact Or.inr (Or.inr (Or.inr ⟨rfl, by first | omega | decide | (constructor <;> first | omega | decide)⟩))) (fun S6 hP6 h75 => ?_))
      replace hxq := hxq.pu hP6 (Or.inl (Nat.ne_of_beq_eq_false rfl))
      replace h76 := h76.pu hP6 (Or.inl (Nat.ne_of_beq_eq_false rfl))
      replace h77 := h77.pu hP6 (Or.inl (Nat.ne_of_beq_eq_false rfl))
      replace hE := hE.pu hP6 hFn
      replace hx := hx.pu hP6 trivial
      replace hn := hn.pu hP6 trivial
      replace hq := hq.pu hP6 trivial
      replace hA := hA.f1 hP6.fr (fun _ => Or.inl rfl)
      have h := h.on hP6 h75 (by simp; omega)
      (repeat (refine BW.pl rfl rfl ?_))
      first | (refine CW.putr rfl rfl (by assumption) rfl (by decide) (fun S7 hP7 h77 => ?_)) | (refine CW.puti rfl (by assumption) rfl (by decide) (by first | exact Or.inl ⟨rfl, by first | omega | decide | (constructor <;> first | omega | decide)⟩ | exact Or.inr (Or.inl ⟨rfl, by first | omega | decide | (constructor <;> first | omega | decide)⟩) | exact Or.inr (Or.inr (Or.inl ⟨rfl, by first | omega | decide | (constructor <;> first | omega | decide)⟩)) | exact Or.inr (Or.inr (Or.inr ⟨rfl, by first | omega | decide | (constructor <;> first | omega | decide)⟩))) (fun S7 hP7 h77 => ?_))
      replace hxq := hxq.pu hP7 (Or.inl (Nat.ne_of_beq_eq_false rfl))
      replace h76 := h76.pu hP7 (Or.inl (Nat.ne_of_beq_eq_false rfl))
      replace hE := hE.pu hP7 hFn
      replace h75 := h75.pu hP7 (Or.inl (Nat.ne_of_beq_eq_false rfl))
      replace h := h.pu hP7 (Or.inl ⟨Nat.ne_of_beq_eq_false rfl, Nat.ne_of_beq_eq_false rfl⟩)
      replace hx := hx.pu hP7 trivial
      replace hn := hn.pu hP7 trivial
      replace hq := hq.pu hP7 trivial
      replace hA := hA.f1 hP7.fr (fun _ => Or.inl rfl)
      (repeat (first | (refine BW.pl rfl rfl ?_) | (refine CW.geti rfl rfl (by assumption) rfl rfl (by assumption) (fun _ => ?_)) | (refine CW.getr rfl rfl (by assumption) rfl rfl (by assumption) ?_)))
      refine CW.newO (L := 4) (c := 8) rfl rfl rfl rfl (fun m S8 hN => ?_)
      have hmz := hA.nil hN.nil
      replace hxq := hxq.fr hN.fr ⟨⟨hx.old (oNe rfl), Nat.le_of_ble_eq_true rfl⟩, Sep.no⟩
      replace h76 := h76.fr hN.fr ⟨⟨hn.old (oNe rfl), Nat.le_of_ble_eq_true rfl⟩, Sep.no⟩
      replace h75 := h75.fr hN.fr ⟨⟨hn.old (oNe rfl), Nat.le_of_ble_eq_true rfl⟩, Sep.no⟩
      replace h := h.fr hN.fr ⟨NoS.no, Sep.no⟩
      replace h77 := h77.fr hN.fr ⟨⟨hn.old (oNe rfl), Nat.le_of_ble_eq_true rfl⟩, Sep.no⟩
      replace hx := hx.fr hN.fr ⟨oNe rfl, Sep.no⟩
      replace hn := hn.fr hN.fr ⟨oNe rfl, Sep.no⟩
      replace hq := hq.fr hN.fr ⟨oNe rfl, Sep.no⟩
      replace hA := hA.nw hN
      have hm := hN.ob
      have hmk := hN.1
      have hE := hE.new hN
      have hGn : ¬ (F n ∧ n ≠ m) := fun z => hFn z.1
      (repeat (refine BW.pl rfl rfl ?_))
      refine BW.kst (fun hK => ?_)
      have hAu := hA.t
      simp only [List.length_cons] at hac hc5
      refine CW.addPart (d := d + 3) (p := (5, c0 + 1, [], false)) rfl rfl (by first | exact Or.inl rfl | exact Or.inr rfl) rfl rfl (by first | exact Or.inl rfl | exact Or.inr rfl) rfl hm hmk hq hE (hF m hmz) hFq ⟨256, rfl, hK 256 (by decide)⟩ ⟨(Nat.le_of_ble_eq_true rfl), (show c0 + 1 < 100 by omega)⟩ (by simp; omega) (by omega) rfl rfl rfl (fun S9 cap9 xs9 hq9 hE9 hF9 hc1 hc2 => ?_)
      replace hxq := hxq.fr hF9 ⟨⟨hx.old (oNe rfl), Nat.le_of_ble_eq_true rfl⟩, (Sep.two (Sep.ne (hx.ne hm (ownNe rfl))) (Sep.ne (hx.ne hq (oNe rfl))))⟩
      replace h76 := h76.fr hF9 ⟨⟨hn.old (oNe rfl), Nat.le_of_ble_eq_true rfl⟩, (Sep.two (Sep.ne (hn.ne hm (ownNe rfl))) (Sep.ne (hn.ne hq (oNe rfl))))⟩
      replace h75 := h75.fr hF9 ⟨⟨hn.old (oNe rfl), Nat.le_of_ble_eq_true rfl⟩, (Sep.two (Sep.ne (hn.ne hm (ownNe rfl))) (Sep.ne (hn.ne hq (oNe rfl))))⟩
      replace h := h.fr hF9 ⟨(NoS.two (NoS.one hm rfl) (NoS.one hq rfl)), (Sep.two (Sep.ne (hn.ne hm (ownNe rfl))) (Sep.ne (hn.ne hq (oNe rfl))))⟩
      replace h77 := h77.fr hF9 ⟨⟨hn.old (oNe rfl), Nat.le_of_ble_eq_true rfl⟩, (Sep.two (Sep.ne (hn.ne hm (ownNe rfl))) (Sep.ne (hn.ne hq (oNe rfl))))⟩
      replace hx := hx.fr hF9 ⟨oNe rfl, (Sep.two (Sep.ne (hx.ne hm (ownNe rfl))) (Sep.ne (hx.ne hq (oNe rfl))))⟩
      replace hn := hn.fr hF9 ⟨oNe rfl, (Sep.two (Sep.ne (hn.ne hm (ownNe rfl))) (Sep.ne (hn.ne hq (oNe rfl))))⟩
      replace hA := hA.f2 hF9 (fun z => absurd hmz z) (fun _ => Or.inr rfl)
      have e : grR c0 st0 (40 :: l0) = .inr (l4, c0 + 1, st1, (4, c0 + 1, [], false) :: ac ++ [(5, c0 + 1, [], false)]) := by
        unfold grR
        rw [if_pos z1, List.tail_cons, hsp]
      refine BW.ret rfl rfl (PpX.go e (by simp; omega) (by simp; omega) hA (by simp; omega) (by omega) ?_ h h76 (by exact h77) hq9 (by rw [← List.append_assoc]; exact hE9))
      simp only [List.length_append, List.length_cons, List.length_nil] at hc2 ⊢
      omega
    have loop : ∀ (k many : Nat) (l3 acc : List Int) (st1 : Nat) (ac : List SPart) (S5 : BS) (cap5 c5 : Nat) (xs5 : List (Option Nat)), k + many = 12 → pGrp 12 st0 [] l0 = pGrp k st1 ac l3 → st1 ≤ 2 → RdAt S5 n s l3 → Ob S5 x (oOwn 9) → Fe S5 66 x (some q) → Ob S5 q (oAl xs5 cap5) → PtsE S5 F xs5 (ps ++ (4, c0 + 1, [], false) :: ac) → Fi S5 76 n st1 → Fi S5 77 n c0 → Fr S S5 (fun m => m = n ∨ m = q) c5 → c5 ≤ 17 + 400 * (l0.length - l3.length) + 6 * (cap5 - cap) → cap ≤ cap5 → (cap5 = cap ∨ cap5 ≤ 2 * (ps.length + ac.length + 1) + 10) → ac.length + l3.length ≤ l0.length → BW (d + 9) gm_X3_group 33 [some (aR n), some (aR x), some (aI (c0 + 1)), some (aI many)] [] S5 (PpX n q 9000 s (40 :: l0) S cap F ps (grR c0 st0 (40 :: l0))) := by
      intro k
      induction k with
      | zero =>
        intro many l3 acc st1 ac S5 cap5 c5 xs5 hk hsp hst1 h hx hxq hq hE h76 h77 hA hc5 hcap1 hcap2 hac
        have hn := h.ob
        have hAt3 := h.at
        have hR3 := h.R
        have h75 := h.fi
        (repeat (refine BW.pl rfl rfl ?_))
        refine CW.e1 rfl rfl (by first | exact Or.inl rfl | exact Or.inr (tagO (by assumption) (by rfl) (by rfl))) (by first | exact Or.inl (by decide) | exact Or.inr ⟨_, rfl, by assumption⟩) rfl (B_look (d := d + 4) h) ?_
        (repeat (refine BW.pl rfl rfl ?_))
        by_cases z : lk l3 = 41
        · obtain ⟨l4, rfl⟩ := lk_cons z (by decide)
          refine BW.br rfl rfl (by first | omega | decide | (constructor <;> first | omega | decide)) (fun w => ?_) (fun w => by first | (exfalso; omega) | exact absurd w (by decide))
          refine fin l4 many ac st1 S5 cap5 c5 xs5 (by rw [hsp]; exact if_pos rfl) h hx hxq hq hE h76 h77 hA hc5 hcap1 hcap2 hac
        · refine BW.br rfl rfl (by first | omega | decide | (constructor <;> first | omega | decide)) (fun w => by first | (exfalso; omega) | exact absurd w (by decide)) (fun w => ?_)
          have zh : ¬ hd l3 = 41 := fun z2 => z ((lk_hd (by decide)).mpr z2)
          (repeat (refine BW.pl rfl rfl ?_))
          refine BW.br rfl rfl (by first | omega | decide | (constructor <;> first | omega | decide)) (fun w2 => ?_) (fun w2 => by first | (exfalso; omega) | exact absurd w2 (by decide))
          (repeat (refine BW.pl rfl rfl ?_))
          refine BW.must (d := d + 5) rfl rfl (by decide) (by decide) rfl h (Or.inl rfl) rfl (fun w => absurd w (by decide)) (fun q9 S9 _ hT9 => ?_)
          have e : grR c0 st0 (40 :: l0) = .inl l3 := by
            unfold grR
            rw [if_pos z1, List.tail_cons, hsp]
            unfold pGrp
            rw [if_neg zh]
          exact PpX.fl e hA (by simp; omega) hT9
      | succ k ih =>
        intro many l3 acc st1 ac S5 cap5 c5 xs5 hk hsp hst1 h hx hxq hq hE h76 h77 hA hc5 hcap1 hcap2 hac
        have hn := h.ob
        have hAt3 := h.at
        have hR3 := h.R
        have h75 := h.fi
        (repeat (refine BW.pl rfl rfl ?_))
        refine CW.e1 rfl rfl (by first | exact Or.inl rfl | exact Or.inr (tagO (by assumption) (by rfl) (by rfl))) (by first | exact Or.inl (by decide) | exact Or.inr ⟨_, rfl, by assumption⟩) rfl (B_look (d := d + 4) h) ?_
        (repeat (refine BW.pl rfl rfl ?_))
        by_cases z : lk l3 = 41
        · obtain ⟨l4, rfl⟩ := lk_cons z (by decide)
          refine BW.br rfl rfl (by first | omega | decide | (constructor <;> first | omega | decide)) (fun w => ?_) (fun w => by first | (exfalso; omega) | exact absurd w (by decide))
          refine fin l4 many ac st1 S5 cap5 c5 xs5 (by rw [hsp]; exact if_pos rfl) h hx hxq hq hE h76 h77 hA hc5 hcap1 hcap2 hac
        · refine BW.br rfl rfl (by first | omega | decide | (constructor <;> first | omega | decide)) (fun w => by first | (exfalso; omega) | exact absurd w (by decide)) (fun w => ?_)
          have zh : ¬ hd l3 = 41 := fun z2 => z ((lk_hd (by decide)).mpr z2)
          (repeat (refine BW.pl rfl rfl ?_))
          refine BW.br rfl rfl (by first | omega | decide | (constructor <;> first | omega | decide)) (fun w2 => by first | (exfalso; omega) | exact absurd w2 (by decide)) (fun w2 => ?_)
          (repeat (refine BW.pl rfl rfl ?_))
          refine BW.must (d := d + 5) rfl rfl (by decide) (by decide) rfl h (Or.inr rfl) rfl (fun _ => ?_) (fun q S' w _ => absurd w (by decide))
          (repeat (refine BW.pl rfl rfl ?_))
          have hAu := hA.t
          refine CW.pp rfl rfl (by first | exact Or.inl rfl | exact Or.inr (tagO hn rfl rfl)) (Or.inl (by decide)) rfl rfl (C_plain (d := d) (x := x) h hx hxq hq hE (fun m z => hF m (hA.nil z)) hFn hFq h76 h77 hst1 (by simp; omega) (by omega)) (fun l6 c6 st6 qs S6 cap6 xs6 e1 e2 e3 hF6 e4 e5 h6 g76 g77 hq6 hE6 => ?_) (fun f S6 r S' e1 hF6 hT6 => ?_)
          · have e7 : pPlain st1 l3 = .inr (l6, st6, qs.headD noPart) ∧ qs = [qs.headD noPart] ∧ c6 = c0 := by
              unfold plR at e1
              cases e8 : pPlain st1 l3 with
              | inl f => rw [e8] at e1; cases e1
              | inr z => obtain ⟨y1, y2, y3⟩ := z; rw [e8] at e1; cases e1; exact ⟨rfl, rfl, rfl⟩
            obtain ⟨e7, e8, rfl⟩ := e7
            have hst6 := pPlain_st e7 hst1
            have hA6 := hA.f2 hF6 (fun _ => Or.inl rfl) (fun _ => Or.inr rfl)
            replace hxq := hxq.fr hF6 ⟨⟨hx.old (oNe rfl), Nat.le_of_ble_eq_true rfl⟩, (Sep.two (Sep.ne (hx.ne hn (ownNe rfl))) (Sep.ne (hx.ne hq (oNe rfl))))⟩
            replace hx := hx.fr hF6 ⟨oNe rfl, (Sep.two (Sep.ne (hx.ne hn (ownNe rfl))) (Sep.ne (hx.ne hq (oNe rfl))))⟩
            replace hA := hA.f2 hF6 (fun _ => Or.inl rfl) (fun _ => Or.inr rfl)
            (iterate 2 (refine BW.pl rfl rfl ?_))
            have e9 : pGrp 12 st0 [] l0 = pGrp k st6 (ac ++ qs) l6 := by
              rw [hsp, pGrp_s zh e7, ← e8]
            have hq1 : qs.length = 1 := by rw [e8]; rfl
            refine ih (many + 1) l6 acc st6 (ac ++ qs) S6 cap6 _ xs6 (by omega) e9 hst6 h6 hx hxq hq6 (by rw [show ps ++ (4, c6 + 1, [], false) :: (ac ++ qs) = ps ++ (4, c6 + 1, [], false) :: ac ++ qs by simp]; exact hE6) g76 g77 hA6 (by omega) (by omega) ?_ (by rw [List.length_append]; omega)
            simp only [List.length_append, List.length_cons] at e5 ⊢
            omega
          · have e7 : pPlain st1 l3 = .inl f := by
              unfold plR at e1
              cases e8 : pPlain st1 l3 with
              | inl f => rw [e8] at e1; cases e1; rfl
              | inr z => obtain ⟨y1, y2, y3⟩ := z; rw [e8] at e1; cases e1
            have e : grR c0 st0 (40 :: l0) = .inl f := by
              unfold grR
              rw [if_pos z1, List.tail_cons, hsp]
              rw [pGrp_f zh e7]
            exact PpX.fl e (hA.f2 hF6 (fun _ => Or.inl rfl) (fun _ => Or.inr rfl)) (by simp; omega) hT6
    exact loop 12 0 l0 [] st0 [] S4 cap4 _ xs4 rfl rfl hst h hx hxq hq4 hE4 h76 h77 hA (by omega) hc1 (by simpa using hc2) (by simp)
  · refine BW.br rfl rfl (by first | omega | decide | (constructor <;> first | omega | decide)) (fun w => ?_) (fun w => by first | (exfalso; omega) | exact absurd w (by decide))
    (repeat (refine BW.pl rfl rfl ?_))
    refine BW.must (d := d + 5) rfl rfl (by decide) (by decide) rfl h (Or.inl rfl) rfl (fun w => absurd w (by decide)) (fun q9 S9 _ hT9 => ?_)
    exact PpX.fl (if_neg z1) Fr.rf (Nat.zero_le _) hT9
end GR
