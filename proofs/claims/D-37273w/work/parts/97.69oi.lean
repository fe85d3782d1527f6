-- C
set_option maxRecDepth 100000
/-! THE READER: an order's act; orders within others -/
/-- what a reading of orders answers; ρ: its cost a sign -/
def RdZ {α : Type} (ρ n c0 : Nat) (s l : List Int) (S : BS) (W : Nat → Prop) (R : PR α) (K : α → Option GV → BS → Prop) (r : GO) (S' : BS) : Prop := match R with
  | .inl f => ∃ S1, Fr S S1 W (ρ * l.length + 30000 + c0) ∧ Thr9 5 42 ((s.length : Int) - f.length) S1 r S'
  | .inr (l1, v) => ∃ w, r = .inl w ∧ l1.length < l.length ∧ Fr S S' W (ρ * (l.length - l1.length) + c0) ∧ RdAt S' n s l1 ∧ K v w S'
section RZ
variable {d i a n c0 c q m ρ : Nat} {b : Int} {M : GMeth} {ls : GL} {st : List GV} {S S' S1 : BS} {Q : GO → BS → Prop} {s l l1 f : List Int} {W W' F : Nat → Prop} {α : Type} {R : PR α} {K : α → Option GV → BS → Prop} {v : α} {w : Option GV} {r : GO}
theorem RdZ.fl (e : R = .inl f) (hF : Fr S S1 W c) (hc : c ≤ ρ * l.length + 30000 + c0) (hT : Thr9 5 42 ((s.length : Int) - f.length) S1 r S') : RdZ ρ n c0 s l S W R K r S' := by
  subst e
  exact ⟨S1, hF.w (fun _ _ z => z) hc, hT⟩
theorem RdZ.go (e : R = .inr (l1, v)) (hl : l1.length < l.length) (hF : Fr S S' W c) (hc : c ≤ ρ * (l.length - l1.length) + c0) (hA : RdAt S' n s l1) (hK : K v w S') : RdZ ρ n c0 s l S W R K (.inl w) S' := by
  subst e
  exact ⟨w, rfl, hl, hF.w (fun _ _ z => z) hc, hA, hK⟩
/-- what is known behind a reading that went on -/
def RzG (ρ n c0 : Nat) (s l : List Int) (S : BS) (W : Nat → Prop) (R : PR α) (K : α → Option GV → BS → Prop) (l1 : List Int) (v : α) (w : Option GV) (S' : BS) : Prop := R = .inr (l1, v) ∧ l1.length < l.length ∧ Fr S S' W (ρ * (l.length - l1.length) + c0) ∧ RdAt S' n s l1 ∧ K v w S'
/-- and behind one that found a fault -/
def RzF (ρ c0 : Nat) (s l : List Int) (S : BS) (W : Nat → Prop) (R : PR α) (f : List Int) (S1 : BS) (r : GO) (S' : BS) : Prop := R = .inl f ∧ Fr S S1 W (ρ * l.length + 30000 + c0) ∧ Thr9 5 42 ((s.length : Int) - f.length) S1 r S'
theorem RdZ.ret (h : RdZ ρ n c0 s l S W R K (.inl w) S') : ∃ l1 v, RzG ρ n c0 s l S W R K l1 v w S' := by
  rcases R with f | ⟨l1, v⟩
  · obtain ⟨S1, h1, q, h2, h3⟩ := h
    cases h2
  · obtain ⟨w', h1, h2, h3, h4, h5⟩ := h
    cases h1
    exact ⟨l1, v, rfl, h2, h3, h4, h5⟩
theorem RdZ.thr {z : Nat × Option Nat} (h : RdZ ρ n c0 s l S W R K (.inr z) S') : ∃ f S1, RzF ρ c0 s l S W R f S1 (.inr z) S' := by
  rcases R with f | ⟨l1, v⟩
  · obtain ⟨S1, h1, h2⟩ := h
    exact ⟨f, S1, rfl, h1, h2⟩
  · obtain ⟨w', h1, h2⟩ := h
    cases h1
theorem CW.z1 {kind mid tag : Nat} {v0 : GV} (hC : M.2.2.1[i]? = some (60, a, b)) (hs : gsites[a]? = some (kind, mid, tag, 1)) (htag : tag = 0 ∨ ∃ n, (some v0 : Option GV) = some (aR n) ∧ ocls (S.1 n) = tag ∧ ((S.1 n).1 == 0) = false) (hin : (kind ≠ 4 ∧ kind ≠ 11) ∨ ∃ n, (some v0 : Option GV) = some (aR n) ∧ 1000 ≤ n) (hr : Nat.ble ((st.map gcat).sum) 8 = true) (hh : ghnd M.2.2.2 i = none) (h : BM d mid [v0] S (RdZ ρ n c0 s l S W R K)) (k : ∀ l1 v w S', RzG ρ n c0 s l S W R K l1 v w S' → BW d M (i + 1) ls (w.toList ++ st) S' Q) (kx : ∀ f S1 r S', RzF ρ c0 s l S W R f S1 r S' → Q r S') : BW d M i ls (v0 :: st) S Q :=
  CW.x1 hC hs htag hin hr hh h (fun w S' z => by obtain ⟨l1, v, h1⟩ := z.ret; exact k l1 v w S' h1) (fun E q S' z => by obtain ⟨f, S1, h1⟩ := z.thr; exact kx f S1 _ S' h1)
theorem CW.z2 {kind mid tag : Nat} {v0 v1 : GV} (hC : M.2.2.1[i]? = some (60, a, b)) (hs : gsites[a]? = some (kind, mid, tag, 2)) (htag : tag = 0 ∨ ∃ n, (some v0 : Option GV) = some (aR n) ∧ ocls (S.1 n) = tag ∧ ((S.1 n).1 == 0) = false) (hin : (kind ≠ 4 ∧ kind ≠ 11) ∨ ∃ n, (some v0 : Option GV) = some (aR n) ∧ 1000 ≤ n) (hr : Nat.ble ((st.map gcat).sum) 8 = true) (hh : ghnd M.2.2.2 i = none) (h : BM d mid [v0, v1] S (RdZ ρ n c0 s l S W R K)) (k : ∀ l1 v w S', RzG ρ n c0 s l S W R K l1 v w S' → BW d M (i + 1) ls (w.toList ++ st) S' Q) (kx : ∀ f S1 r S', RzF ρ c0 s l S W R f S1 r S' → Q r S') : BW d M i ls (v1 :: v0 :: st) S Q :=
  CW.x2 hC hs htag hin hr hh h (fun w S' z => by obtain ⟨l1, v, h1⟩ := z.ret; exact k l1 v w S' h1) (fun E q S' z => by obtain ⟨f, S1, h1⟩ := z.thr; exact kx f S1 _ S' h1)
end RZ
section OI
variable {d i a n q x b m c0 c1 : Nat} {b1 kd c iv : Int} {M : GMeth} {ls : GL} {st : List GV} {s l l1 l3 f acc : List Int} {S S0 S1 S' : BS} {F F' W : Nat → Prop} {Q : GO → BS → Prop} {y : Option Nat} {o : Obj} {r : Option Nat} {pt : SPat} {LL : List Nat} {w : Bool × Option SAdr × Option SAdr} {inner : Bool}
theorem C_ordNew (hn : Ob S n (oOwn 7)) (h1000 : 1000 ≤ n) : BMr (d + 4) gk_X4_init [aR n] S (fun r S' => r = none ∧ ∃ q, S.1 q = oNil ∧ Fr1 S S' n 15 ∧ Ob S' n (oOwn 7) ∧ Ob S' q (oAl [] 0) ∧ Fe S' 50 n (some q) ∧ FlK S S' n [50]) := by
  obtain ⟨H, fi, fr, t⟩ := S
  refine BMr.mono (B_ordNew (d := d) hn h1000) (fun r S' ⟨h1, q, hq, e⟩ => ⟨h1, q, hq.2.1, ?_⟩)
  have hn : H n = oOwn 7 := hn
  have hqn : H q = oNil := hq.2.1
  have hnq : n ≠ q := fun z => by rw [z, hqn] at hn; exact oNe (o := oNil) (o' := oOwn 7) rfl hn
  have key : ∀ m, m ≠ q → S'.1 m = H m := fun m a => by rw [e]; exact (upH_ne a).trans (upH_ne a)
  have oq : S'.1 q = oAl [] 0 := by rw [e]; exact upH_eq
  refine ⟨⟨fun m hm => ?_, fun m hm hmn => ⟨key m (fun z => hm (by rw [z]; exact hqn)), fun F hF => ⟨by rw [e], ?_⟩⟩, by rw [e]; exact Nat.le_refl _⟩, (key n hnq).trans hn, oq, ?_, fun F hF hL => ⟨by rw [e], ?_⟩⟩
  · by_cases a : m = q
    · rw [a, oq]; exact oNe rfl
    · rw [key m a]; exact hm
  · rw [e]; exact if_neg (fun z => hmn z.2)
  · rw [e]; exact if_pos ⟨rfl, rfl⟩
  · rw [e]; exact if_neg (fun z => hL (by rw [z.1]; exact List.mem_singleton_self _))
theorem acN_mem (c : Int) : c ∈ kstr.getD 1 [] ↔ isAcN c ∨ isGc c = true := by
  unfold isAcN isGc
  rw [decide_eq_true_iff]
  show c ∈ [97, 105, 99, 100, 106, 108, 112, 61, 110, 104, 72, 117, 101, 113, 78, 118, 62, 60, 111, 79, 109, 116, 107, 114, 119, 58, 98, 84, 115, 122, 103, 71, 123] ↔ _
  simp only [List.mem_cons, List.not_mem_nil, or_false]
  constructor <;> (intro h; omega)
theorem outG_mem (c : Int) : c ∈ kstr.getD 2 [] ↔ isOut c = true ∨ isGc c = true := by
  unfold isOut isGc
  rw [decide_eq_true_iff]
  show c ∈ [103, 71, 123, 58, 98, 84, 113, 78] ↔ _
  simp only [List.contains_cons, Bool.or_eq_true, beq_iff_eq, List.contains_nil, List.mem_cons, List.not_mem_nil, or_false]
  constructor <;> (intro h; simp at h ⊢; omega)
theorem orAct (hiv : iv = 0 ∨ iv = 1) (h : RdAt S n s l) (hm : Ob S m (oOwn 7)) (h45 : Fi S 45 m (b2i w.1)) (h46 : Fe S 46 m r) (hr : AdO S F r w.2.1)
    (k : ∀ S1 S2, l ≠ [] → (isAcN (hd l) ∨ isGc (hd l) = true) → ¬ (iv = 1 ∧ (isOut (hd l) = true ∨ isGc (hd l) = true)) → ¬ (hd l = 58 ∧ (w.1 = true ∨ w.2.1 ≠ none)) → Pu S S1 75 n → Pu S1 S2 48 m → RdAt S2 n s l.tail → Fi S2 48 m (hd l) → BW (d + 14) gm_X3_order 70 [some (aR n), some (aI iv), some (aR m), some (aI (lk l))] [] S2 Q)
    (kx : (l = [] ∨ ¬ (isAcN (hd l) ∨ isGc (hd l) = true) ∨ (iv = 1 ∧ (isOut (hd l) = true ∨ isGc (hd l) = true)) ∨ (hd l = 58 ∧ (w.1 = true ∨ w.2.1 ≠ none))) → ∀ r S', Thr9 5 42 ((s.length : Int) - l.length) S r S' → Q r S') : BW (d + 14) gm_X3_order 29 [some (aR n), some (aI iv), some (aR m), none] [] S Q := by
  have hn := h.ob
  have hR := h.R
  have kl1 : (kstr.getD 1 []).length = 33 := rfl
  have kl2 : (kstr.getD 2 []).length = 8 := rfl
  refine BW.kst (fun hK => ?_)
  have k1 : Ob S 257 (oStr (kstr.getD 1 [])) := hK 257 (by decide)
  have k2 : Ob S 258 (oStr (kstr.getD 2 [])) := hK 258 (by decide)
  (repeat (refine BW.pl rfl rfl ?_))
  refine CW.e1 rfl rfl (by first | exact Or.inl rfl | exact Or.inr (tagO (by assumption) (by rfl) (by rfl))) (by first | exact Or.inl (by decide) | exact Or.inr ⟨_, rfl, by assumption⟩) rfl (B_look (d := d + 9) h) ?_
  (repeat (refine BW.pl rfl rfl ?_))
  cases l with
  | nil =>
    refine BW.br rfl rfl (by first | omega | decide | (constructor <;> first | omega | decide)) (fun w0 => ?_) (fun w0 => by first | (exfalso; omega) | exact absurd w0 (by decide))
    (repeat (refine BW.pl rfl rfl ?_))
    refine BW.must (d := d + 10) rfl rfl (by decide) (by decide) rfl h (Or.inl rfl) rfl (fun w => absurd w (by decide)) (fun q9 S9 _ hT9 => ?_)
    exact kx (Or.inl rfl) _ _ hT9
  | cons c l =>
    have hR : -1 ≤ c ∧ c < 128 := hR
    rw [show lk (c :: l) = c from rfl]
    have hc0 : 0 ≤ c := (h.2.2.2.1 c (h.mem List.mem_cons_self)).1
    refine BW.br rfl rfl (by first | omega | decide | (constructor <;> first | omega | decide)) (fun w0 => by first | (exfalso; omega) | exact absurd w0 (by decide)) (fun w0 => ?_)
    (repeat (refine BW.pl rfl rfl ?_))
    refine CW.e2 rfl rfl (by first | exact Or.inl rfl | exact Or.inr (tagO (by assumption) (by rfl) (by rfl))) (by first | exact Or.inl (by decide) | exact Or.inr ⟨_, rfl, by assumption⟩) rfl (B_sidx (d := d + 10) k1 ⟨hc0, hR.2⟩) ?_
    (repeat (refine BW.pl rfl rfl ?_))
    by_cases z1 : isAcN c ∨ isGc c = true
    · have z1' := (sidx_mem c _ 0 (Int.le_refl _)).mpr ((acN_mem c).mpr z1)
      have z1r := sidx_R c (kstr.getD 1 []) 0 (by decide)
      refine BW.br rfl rfl (by first | omega | decide | (constructor <;> first | omega | decide)) (fun w1 => by first | (exfalso; omega) | exact absurd w1 (by decide)) (fun w1 => ?_)
      (repeat (refine BW.pl rfl rfl ?_))
      refine BW.must (d := d + 10) rfl rfl (by decide) (by decide) rfl h (Or.inr rfl) rfl (fun _ => ?_) (fun q S' w _ => absurd w (by decide))
      have at55 : ¬ (iv = 1 ∧ (isOut c = true ∨ isGc c = true)) → BW (d + 14) gm_X3_order 55 [some (aR n), some (aI iv), some (aR m), some (aI c)] [] S Q := fun z2 => by
        have act : ¬ (c = 58 ∧ (w.1 = true ∨ w.2.1 ≠ none)) → BW (d + 14) gm_X3_order 66 [some (aR n), some (aI iv), some (aR m), some (aI c)] [] S Q := fun z3 => by
          (repeat (refine BW.pl rfl rfl ?_))
          refine CW.c1 rfl rfl (by first | exact Or.inl rfl | exact Or.inr (tagO (by assumption) (by rfl) (by rfl))) (by first | exact Or.inl (by decide) | exact Or.inr ⟨_, rfl, by assumption⟩) rfl (C_next (d := d + 9) h) ?_
          rintro r S1 ⟨rfl, hP1, h1⟩
          replace hm := hm.pu hP1 trivial
          (repeat (refine BW.pl rfl rfl ?_))
          first | (refine CW.putr rfl rfl (by assumption) rfl (by decide) (fun S2 hP2 h48 => ?_)) | (refine CW.puti rfl (by assumption) rfl (by decide) (by first | exact Or.inl ⟨rfl, by first | omega | decide | (constructor <;> first | omega | decide)⟩ | exact Or.inr (Or.inl ⟨rfl, by first | omega | decide | (constructor <;> first | omega | decide)⟩) | exact Or.inr (Or.inr (Or.inl ⟨rfl, by first | omega | decide | (constructor <;> first | omega | decide)⟩)) | exact Or.inr (Or.inr (Or.inr ⟨rfl, by first | omega | decide | (constructor <;> first | omega | decide)⟩))) (fun S2 hP2 h48 => ?_))
          replace h1 := h1.pu hP2 (Or.inl ⟨Nat.ne_of_beq_eq_false rfl, Nat.ne_of_beq_eq_false rfl⟩)
          replace hm := hm.pu hP2 trivial
          exact k S1 S2 (List.cons_ne_nil _ _) z1 z2 z3 hP1 hP2 h1 h48
        (repeat (refine BW.pl rfl rfl ?_))
        by_cases z4 : c = 58
        · refine BW.br rfl rfl (by first | omega | decide | (constructor <;> first | omega | decide)) (fun w4 => by first | (exfalso; omega) | exact absurd w4 (by decide)) (fun w4 => ?_)
          (repeat (refine BW.pl rfl rfl ?_))
          refine CW.e1 rfl rfl (by first | exact Or.inl rfl | exact Or.inr (tagO (by assumption) (by rfl) (by rfl))) (by first | exact Or.inl (by decide) | exact Or.inr ⟨_, rfl, by assumption⟩) rfl (C_hasWhere (d := d + 13) hm h45 h46 hr) ?_
          by_cases z5 : w.1 = true ∨ w.2.1 ≠ none
          · rw [if_pos z5]
            refine BW.br rfl rfl (by first | omega | decide | (constructor <;> first | omega | decide)) (fun w5 => ?_) (fun w5 => by first | (exfalso; omega) | exact absurd w5 (by decide))
            (repeat (refine BW.pl rfl rfl ?_))
            refine BW.must (d := d + 10) rfl rfl (by decide) (by decide) rfl h (Or.inl rfl) rfl (fun w => absurd w (by decide)) (fun q9 S9 _ hT9 => ?_)
            exact kx (Or.inr (Or.inr (Or.inr ⟨z4, z5⟩))) _ _ hT9
          · rw [if_neg z5]
            refine BW.br rfl rfl (by first | omega | decide | (constructor <;> first | omega | decide)) (fun w5 => by first | (exfalso; omega) | exact absurd w5 (by decide)) (fun w5 => ?_)
            (repeat (refine BW.pl rfl rfl ?_))
            refine BW.must (d := d + 10) rfl rfl (by decide) (by decide) rfl h (Or.inr rfl) rfl (fun _ => ?_) (fun q S' w _ => absurd w (by decide))
            exact act (fun z => z5 z.2)
        · refine BW.br rfl rfl (by first | omega | decide | (constructor <;> first | omega | decide)) (fun w4 => ?_) (fun w4 => by first | (exfalso; omega) | exact absurd w4 (by decide))
          (repeat (refine BW.pl rfl rfl ?_))
          refine BW.must (d := d + 10) rfl rfl (by decide) (by decide) rfl h (Or.inr rfl) rfl (fun _ => ?_) (fun q S' w _ => absurd w (by decide))
          exact act (fun z => z4 z.1)
      (repeat (refine BW.pl rfl rfl ?_))
      rcases hiv with rfl | rfl
      · refine BW.br rfl rfl (by first | omega | decide | (constructor <;> first | omega | decide)) (fun w2 => ?_) (fun w2 => by first | (exfalso; omega) | exact absurd w2 (by decide))
        (repeat (refine BW.pl rfl rfl ?_))
        refine BW.must (d := d + 10) rfl rfl (by decide) (by decide) rfl h (Or.inr rfl) rfl (fun _ => ?_) (fun q S' w _ => absurd w (by decide))
        exact at55 (fun z => absurd z.1 (by decide))
      · refine BW.br rfl rfl (by first | omega | decide | (constructor <;> first | omega | decide)) (fun w2 => by first | (exfalso; omega) | exact absurd w2 (by decide)) (fun w2 => ?_)
        (repeat (refine BW.pl rfl rfl ?_))
        refine CW.e2 rfl rfl (by first | exact Or.inl rfl | exact Or.inr (tagO (by assumption) (by rfl) (by rfl))) (by first | exact Or.inl (by decide) | exact Or.inr ⟨_, rfl, by assumption⟩) rfl (B_sidx (d := d + 10) k2 ⟨hc0, hR.2⟩) ?_
        (repeat (refine BW.pl rfl rfl ?_))
        have z2r := sidx_R c (kstr.getD 2 []) 0 (by decide)
        by_cases z2 : isOut c = true ∨ isGc c = true
        · have z2' := (sidx_mem c _ 0 (Int.le_refl _)).mpr ((outG_mem c).mpr z2)
          refine BW.br rfl rfl (by first | omega | decide | (constructor <;> first | omega | decide)) (fun w3 => ?_) (fun w3 => by first | (exfalso; omega) | exact absurd w3 (by decide))
          (repeat (refine BW.pl rfl rfl ?_))
          refine BW.must (d := d + 10) rfl rfl (by decide) (by decide) rfl h (Or.inl rfl) rfl (fun w => absurd w (by decide)) (fun q9 S9 _ hT9 => ?_)
          exact kx (Or.inr (Or.inr (Or.inl ⟨rfl, z2⟩))) _ _ hT9
        · have z2' : ¬ 0 ≤ sidx c (kstr.getD 2 []) 0 := fun z => z2 ((outG_mem c).mp ((sidx_mem c _ 0 (Int.le_refl _)).mp z))
          refine BW.br rfl rfl (by first | omega | decide | (constructor <;> first | omega | decide)) (fun w3 => by first | (exfalso; omega) | exact absurd w3 (by decide)) (fun w3 => ?_)
          (repeat (refine BW.pl rfl rfl ?_))
          refine BW.must (d := d + 10) rfl rfl (by decide) (by decide) rfl h (Or.inr rfl) rfl (fun _ => ?_) (fun q S' w _ => absurd w (by decide))
          exact at55 (fun z => z2 z.2)
    · have z1' : ¬ 0 ≤ sidx c (kstr.getD 1 []) 0 := fun z => z1 ((acN_mem c).mp ((sidx_mem c _ 0 (Int.le_refl _)).mp z))
      have z1r := sidx_R c (kstr.getD 1 []) 0 (by decide)
      refine BW.br rfl rfl (by first | omega | decide | (constructor <;> first | omega | decide)) (fun w1 => ?_) (fun w1 => by first | (exfalso; omega) | exact absurd w1 (by decide))
      (repeat (refine BW.pl rfl rfl ?_))
      refine BW.must (d := d + 10) rfl rfl (by decide) (by decide) rfl h (Or.inl rfl) rfl (fun w => absurd w (by decide)) (fun q9 S9 _ hT9 => ?_)
      exact kx (Or.inr (Or.inl z1)) _ _ hT9
end OI
