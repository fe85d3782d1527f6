-- C
set_option maxRecDepth 100000
/-! LINEORDERS: findRange -/
section FR
variable {d n m q i a y cap c1 c2 cap' p B c k f e l u w yp pp it lr : Nat} {S S' S0 S1 S2 : BS} {K : Nat → Nat} {la : Int → Nat} {G : BG} {A : St} {F V : Nat → Prop} {s s2 z z2 row : List Int} {v nn b1 x1 x2 x3 : Int} {dn rs t : List SLine} {x : SLine} {r : Option Nat} {Q : GO → BS → Prop} {od : SOrd0} {pt : SPat} {b g : MG} {o : Obj} {zz : Prop} {M : GMeth} {ls : GL} {st : List GV} {bk : Bool} {ad : SAdr}
theorem LO.puO (hL : LO S K la A B) (hP : Pu S S' a (K 1)) (ha : a ∉ [0, 2, 3, 4, 5, 6, 7, 8, 9, 10, 14, 15]) : LO S' K la A B := ⟨hL.1.puO hP ha, hL.2.f6 hP.fr (W6.one hL.1.obx (ownNe rfl) rfl)⟩
def RgX (S : BS) (K : Nat → Nat) (la : Int → Nat) (A : St) (B : Nat) (V : Nat → Prop) (R : Nat ⊕ (Nat × Nat)) (r : GO) (S' : BS) : Prop := match R with
  | .inl w => ∃ S1, LO S1 K la A (B + 34) ∧ XF K V S S1 ∧ Thr9 11 78 w S1 r S'
  | .inr (f, l) => r = .inl none ∧ LO S' K la A (B + 34) ∧ XF K V S S' ∧ Fi S' 16 (K 1) f ∧ Fi S' 17 (K 1) l
theorem L_findRange (hL : LO S K la A B) (hK : ∀ m, F m → KoM K m) (hO : Or0 S F zz m od) (had1 : ∀ a, oFst od = some a → AdK a) (had2 : ∀ a, oSnd od = some a → AdK a) (hac : 0 ≤ oAct od ∧ oAct od < 1000) (hT : TxK A) (hB : B + 34 ≤ 20000000) : BM (d + 185) gk_X1_findRange [aR (K 1), aR m] S (RgX S K la A B V (sRange A od)) := by
  have hL34 : ∀ {S2 : BS} {c : Nat}, c ≤ 34 → LO S2 K la A (B + c) → LO S2 K la A (B + 34) := fun hc h => ⟨h.1.le (by omega) hB, h.2⟩
  have hx := hL.1.obx
  have h40 := hT.2.1
  have hp1 := hT.1.1
  obtain ⟨f0, hm, h45, ⟨r46, h46, h46a⟩, ⟨r47, h47, h47a⟩, h48, -, -⟩ := id hO
  have kq := hK _ f0
  have h48 : Fi S 48 m (oAct od) := h48
  have h46a : AdO S F r46 (oFst od) := h46a
  have h47a : AdO S F r47 (oSnd od) := h47a
  have eS : sRange A od = if oAll od = true ∨ (oFst od = none ∧ sWide (oAct od) = true) then (if A.1.length = 0 ∧ sWide (oAct od) = false then .inl 1 else .inr (1, A.1.length))
    else match sAdO A A.2.1 (oFst od) with
      | .inl w => .inl w
      | .inr f => match sAdO A f (oSnd od) with
        | .inl w => .inl w
        | .inr l => if l < f then .inl 1 else if f = 0 ∧ ¬ (oSnd od = none ∧ sAhead (oAct od) = true) then .inl 1 else .inr (f, l) := rfl
  refine BM.of rfl rfl rfl ?_
  -- the whole text
  have at9 : (oAll od = true ∨ (oFst od = none ∧ sWide (oAct od) = true)) → BW (d + 184) gm_X1_findRange 9 [some (aR (K 1)), some (aR m), none, none] [] S (RgX S K la A B V (sRange A od)) := by
    intro hc
    rw [eS, if_pos hc]
    (repeat (refine BW.pl rfl rfl ?_))
    first | (refine CW.putr rfl rfl (by assumption) rfl (by decide) (fun S1 hP1 h16 => ?_)) | (refine CW.puti rfl (by assumption) rfl (by decide) (by first | exact Or.inl ⟨rfl, by first | omega | decide | (constructor <;> first | omega | decide)⟩ | exact Or.inr (Or.inl ⟨rfl, by first | omega | decide | (constructor <;> first | omega | decide)⟩) | exact Or.inr (Or.inr (Or.inl ⟨rfl, by first | omega | decide | (constructor <;> first | omega | decide)⟩)) | exact Or.inr (Or.inr (Or.inr ⟨rfl, by first | omega | decide | (constructor <;> first | omega | decide)⟩))) (fun S1 hP1 h16 => ?_))
    have hL1 := hL.puO hP1 (by decide)
    have hX1 : XF K V S S1 := XF.rf.pu1 hP1 (by decide)
    have hx1 := hL1.1.obx
    have e3 := hL1.1.e3
    obtain ⟨mc0, hT0⟩ := hL1.1.text
    have hl0 : (lsOf la (idsOfL A.1)).length = A.1.length := by rw [lsOf_len, ids_len]
    (repeat (first | (refine BW.pl rfl rfl ?_) | (refine CW.geti rfl rfl (by assumption) rfl rfl (by assumption) (fun _ => ?_)) | (refine CW.getr rfl rfl (by assumption) rfl rfl (by assumption) ?_)))
    refine CW.e1 rfl rfl (by first | exact Or.inl rfl | exact Or.inr (tagO (by assumption) (by rfl) (by rfl))) (by first | exact Or.inl (by decide) | exact Or.inr ⟨_, rfl, by assumption⟩) rfl (B_llSize hT0) ?_
    rw [hl0]
    first | (refine CW.putr rfl rfl (by assumption) rfl (by decide) (fun S2 hP2 h17 => ?_)) | (refine CW.puti rfl (by assumption) rfl (by decide) (by first | exact Or.inl ⟨rfl, by first | omega | decide | (constructor <;> first | omega | decide)⟩ | exact Or.inr (Or.inl ⟨rfl, by first | omega | decide | (constructor <;> first | omega | decide)⟩) | exact Or.inr (Or.inr (Or.inl ⟨rfl, by first | omega | decide | (constructor <;> first | omega | decide)⟩)) | exact Or.inr (Or.inr (Or.inr ⟨rfl, by first | omega | decide | (constructor <;> first | omega | decide)⟩))) (fun S2 hP2 h17 => ?_))
    have hL2 := hL1.puO hP2 (by decide)
    have hX2 := hX1.pu1 hP2 (by decide)
    have hx2 := hL2.1.obx
    have h162 : Fi S2 16 (K 1) 1 := h16.pu hP2 (Or.inl (by decide))
    have hm2 := (hX2.ob hm kq (oNe rfl) rfl).1
    have h482 : Fi S2 48 m (oAct od) := hX2.fi hm kq (oNe rfl) rfl h48 (by decide)
    (repeat (first | (refine BW.pl rfl rfl ?_) | (refine CW.geti rfl rfl (by assumption) rfl rfl (by assumption) (fun _ => ?_)) | (refine CW.getr rfl rfl (by assumption) rfl rfl (by assumption) ?_)))
    by_cases z : 0 < A.1.length
    · rw [if_neg (by omega)]
      refine BW.br rfl rfl (by first | omega | decide | (constructor <;> first | omega | decide)) (fun w => ?_) (fun w => by first | (exfalso; omega) | exact absurd w (by decide))
      (repeat (refine BW.pl rfl rfl ?_))
      refine CW.need rfl rfl (by decide) rfl (Or.inr rfl) (by decide) rfl (fun _ => ?_) (fun w => absurd w (by decide))
      exact BW.ret rfl rfl ⟨rfl, hL34 (Nat.zero_le _) hL2, hX2, h162, h17⟩
    · refine BW.br rfl rfl (by first | omega | decide | (constructor <;> first | omega | decide)) (fun w => by first | (exfalso; omega) | exact absurd w (by decide)) (fun w => ?_)
      (repeat (refine BW.pl rfl rfl ?_))
      refine CW.e1 rfl rfl (by first | exact Or.inl rfl | exact Or.inr (tagO (by assumption) (by rfl) (by rfl))) (by first | exact Or.inl (by decide) | exact Or.inr ⟨_, rfl, by assumption⟩) rfl (L_takesAll hm2 h482 hac) ?_
      by_cases z2 : sWide (oAct od) = true
      · rw [if_pos z2, if_neg (by rw [z2]; exact fun w => by cases w.2)]
        refine BW.br rfl rfl (by first | omega | decide | (constructor <;> first | omega | decide)) (fun w2 => by first | (exfalso; omega) | exact absurd w2 (by decide)) (fun w2 => ?_)
        (repeat (refine BW.pl rfl rfl ?_))
        refine CW.need rfl rfl (by decide) rfl (Or.inr rfl) (by decide) rfl (fun _ => ?_) (fun w => absurd w (by decide))
        exact BW.ret rfl rfl ⟨rfl, hL34 (Nat.zero_le _) hL2, hX2, h162, h17⟩
      · rw [if_neg z2, if_pos ⟨by omega, by cases h : sWide (oAct od) with | true => exact absurd h z2 | false => rfl⟩]
        refine BW.br rfl rfl (by first | omega | decide | (constructor <;> first | omega | decide)) (fun w2 => ?_) (fun w2 => by first | (exfalso; omega) | exact absurd w2 (by decide))
        (repeat (refine BW.pl rfl rfl ?_))
        refine CW.need rfl rfl (by decide) rfl (Or.inl rfl) (by decide) rfl (fun w => absurd w (by decide)) (fun _ r9 S9 hT9 => ?_)
        exact ⟨S2, hL34 (Nat.zero_le _) hL2, hX2, hT9⟩
  -- both are known
  have at50 : ∀ (S2 : BS) (f l : Nat) (e1 : Nat), e1 ≤ 34 → f ≤ 40 → l ≤ 40 → LO S2 K la A (B + e1) → XF K V S S2 → (sRange A od = if l < f then .inl 1 else if f = 0 ∧ ¬ (oSnd od = none ∧ sAhead (oAct od) = true) then .inl 1 else .inr (f, l)) → BW (d + 184) gm_X1_findRange 50 [some (aR (K 1)), some (aR m), some (aI f), none] [aI l, aR (K 1)] S2 (RgX S K la A B V (sRange A od)) := by
    intro S2 f l e1 he1 hf40 hl40 hL2 hX2 he
    rw [he]
    have hx2 := hL2.1.obx
    first | (refine CW.putr rfl rfl (by assumption) rfl (by decide) (fun S3 hP3 h17 => ?_)) | (refine CW.puti rfl (by assumption) rfl (by decide) (by first | exact Or.inl ⟨rfl, by first | omega | decide | (constructor <;> first | omega | decide)⟩ | exact Or.inr (Or.inl ⟨rfl, by first | omega | decide | (constructor <;> first | omega | decide)⟩) | exact Or.inr (Or.inr (Or.inl ⟨rfl, by first | omega | decide | (constructor <;> first | omega | decide)⟩)) | exact Or.inr (Or.inr (Or.inr ⟨rfl, by first | omega | decide | (constructor <;> first | omega | decide)⟩))) (fun S3 hP3 h17 => ?_))
    have hL3 := hL2.puO hP3 (by decide)
    have hX3 := hX2.pu1 hP3 (by decide)
    have hx3 := hL3.1.obx
    (repeat (refine BW.pl rfl rfl ?_))
    first | (refine CW.putr rfl rfl (by assumption) rfl (by decide) (fun S4 hP4 h16 => ?_)) | (refine CW.puti rfl (by assumption) rfl (by decide) (by first | exact Or.inl ⟨rfl, by first | omega | decide | (constructor <;> first | omega | decide)⟩ | exact Or.inr (Or.inl ⟨rfl, by first | omega | decide | (constructor <;> first | omega | decide)⟩) | exact Or.inr (Or.inr (Or.inl ⟨rfl, by first | omega | decide | (constructor <;> first | omega | decide)⟩)) | exact Or.inr (Or.inr (Or.inr ⟨rfl, by first | omega | decide | (constructor <;> first | omega | decide)⟩))) (fun S4 hP4 h16 => ?_))
    have hL4 := hL34 he1 (hL3.puO hP4 (by decide))
    have hX4 := hX3.pu1 hP4 (by decide)
    have hx4 := hL4.1.obx
    have h174 : Fi S4 17 (K 1) l := h17.pu hP4 (Or.inl (by decide))
    have hm4 := (hX4.ob hm kq (oNe rfl) rfl).1
    have h484 : Fi S4 48 m (oAct od) := hX4.fi hm kq (oNe rfl) rfl h48 (by decide)
    have h474 := hX4.fe hm kq (oNe rfl) rfl h47 (by decide)
    (repeat (first | (refine BW.pl rfl rfl ?_) | (refine CW.geti rfl rfl (by assumption) rfl rfl (by assumption) (fun _ => ?_)) | (refine CW.getr rfl rfl (by assumption) rfl rfl (by assumption) ?_)))
    by_cases z : l < f
    · rw [if_pos z]
      refine BW.br rfl rfl (by first | omega | decide | (constructor <;> first | omega | decide)) (fun w => ?_) (fun w => by first | (exfalso; omega) | exact absurd w (by decide))
      (repeat (refine BW.pl rfl rfl ?_))
      refine CW.need rfl rfl (by decide) rfl (Or.inl rfl) (by decide) rfl (fun w => absurd w (by decide)) (fun _ r9 S9 hT9 => ?_)
      exact ⟨S4, hL4, hX4, hT9⟩
    · rw [if_neg z]
      refine BW.br rfl rfl (by first | omega | decide | (constructor <;> first | omega | decide)) (fun w => by first | (exfalso; omega) | exact absurd w (by decide)) (fun w => ?_)
      (repeat (refine BW.pl rfl rfl ?_))
      refine CW.need rfl rfl (by decide) rfl (Or.inr rfl) (by decide) rfl (fun _ => ?_) (fun w => absurd w (by decide))
      (repeat (first | (refine BW.pl rfl rfl ?_) | (refine CW.geti rfl rfl (by assumption) rfl rfl (by assumption) (fun _ => ?_)) | (refine CW.getr rfl rfl (by assumption) rfl rfl (by assumption) ?_)))
      -- may it be nought
      have at82 : ∀ (mb : Bool), (mb = true ↔ (oSnd od = none ∧ sAhead (oAct od) = true)) → BW (d + 184) gm_X1_findRange 82 [some (aR (K 1)), some (aR m), some (aI f), none] [aI (b2i mb)] S4 (RgX S K la A B V (if f = 0 ∧ ¬ (oSnd od = none ∧ sAhead (oAct od) = true) then .inl 1 else .inr (f, l))) := by
        intro mb hmb
        (repeat (first | (refine BW.pl rfl rfl ?_) | (refine CW.geti rfl rfl (by assumption) rfl rfl (by assumption) (fun _ => ?_)) | (refine CW.getr rfl rfl (by assumption) rfl rfl (by assumption) ?_)))
        by_cases z2 : 0 < f
        · rw [if_neg (by omega)]
          refine BW.br rfl rfl (by first | omega | decide | (constructor <;> first | omega | decide)) (fun w2 => ?_) (fun w2 => by first | (exfalso; omega) | exact absurd w2 (by decide))
          (repeat (refine BW.pl rfl rfl ?_))
          refine CW.need rfl rfl (by decide) rfl (Or.inr rfl) (by decide) rfl (fun _ => ?_) (fun w => absurd w (by decide))
          exact BW.ret rfl rfl ⟨rfl, hL4, hX4, h16, h174⟩
        · refine BW.br rfl rfl (by first | omega | decide | (constructor <;> first | omega | decide)) (fun w2 => by first | (exfalso; omega) | exact absurd w2 (by decide)) (fun w2 => ?_)
          (repeat (refine BW.pl rfl rfl ?_))
          cases mb with
          | true =>
            rw [if_neg (fun w => w.2 (hmb.mp rfl))]
            refine BW.br rfl rfl (by first | omega | decide | (constructor <;> first | omega | decide)) (fun w3 => by first | (exfalso; omega) | exact absurd w3 (by decide)) (fun w3 => ?_)
            (repeat (refine BW.pl rfl rfl ?_))
            refine CW.need rfl rfl (by decide) rfl (Or.inr rfl) (by decide) rfl (fun _ => ?_) (fun w => absurd w (by decide))
            exact BW.ret rfl rfl ⟨rfl, hL4, hX4, h16, h174⟩
          | false =>
            rw [if_pos ⟨by omega, fun w => by cases hmb.mpr w⟩]
            refine BW.br rfl rfl (by first | omega | decide | (constructor <;> first | omega | decide)) (fun w3 => ?_) (fun w3 => by first | (exfalso; omega) | exact absurd w3 (by decide))
            (repeat (refine BW.pl rfl rfl ?_))
            refine CW.need rfl rfl (by decide) rfl (Or.inl rfl) (by decide) rfl (fun w => absurd w (by decide)) (fun _ r9 S9 hT9 => ?_)
            exact ⟨S4, hL4, hX4, hT9⟩
      cases hsd : oSnd od with
      | some a2 =>
        rw [hsd] at h47a at82
        obtain ⟨am, rfl, ha⟩ := h47a
        have ham := hX4.ob ha.2.1 (hK _ ha.1) (oNe rfl) rfl
        refine CW.nul rfl rfl (fun n h => by cases h; rw [show S4.1 am = _ from ham.1]; rfl) ?_
        (iterate 1 (refine BW.pl rfl rfl ?_))
        exact at82 false ⟨fun w => (by cases w), fun w => (by cases w.1)⟩
      | none =>
        rw [hsd] at h47a at82
        have h47a : r47 = none := h47a
        subst h47a
        refine CW.nul rfl rfl (fun n h => by cases h) ?_
        (repeat (first | (refine BW.pl rfl rfl ?_) | (refine CW.geti rfl rfl (by assumption) rfl rfl (by assumption) (fun _ => ?_)) | (refine CW.getr rfl rfl (by assumption) rfl rfl (by assumption) ?_)))
        by_cases y1 : oAct od = 97
        · refine BW.br rfl rfl (by first | omega | decide | (constructor <;> first | omega | decide)) (fun w1 => ?_) (fun w1 => by first | (exfalso; omega) | exact absurd w1 (by decide))
          (iterate 2 (refine BW.pl rfl rfl ?_))
          exact at82 true ⟨fun _ => ⟨rfl, decide_eq_true (Or.inl y1)⟩, fun _ => rfl⟩
        · refine BW.br rfl rfl (by first | omega | decide | (constructor <;> first | omega | decide)) (fun w1 => by first | (exfalso; omega) | exact absurd w1 (by decide)) (fun w1 => ?_)
          (repeat (first | (refine BW.pl rfl rfl ?_) | (refine CW.geti rfl rfl (by assumption) rfl rfl (by assumption) (fun _ => ?_)) | (refine CW.getr rfl rfl (by assumption) rfl rfl (by assumption) ?_)))
          by_cases y2 : oAct od = 114
          · refine BW.br rfl rfl (by first | omega | decide | (constructor <;> first | omega | decide)) (fun w2 => ?_) (fun w2 => by first | (exfalso; omega) | exact absurd w2 (by decide))
            (iterate 2 (refine BW.pl rfl rfl ?_))
            exact at82 true ⟨fun _ => ⟨rfl, decide_eq_true (Or.inr (Or.inl y2))⟩, fun _ => rfl⟩
          · refine BW.br rfl rfl (by first | omega | decide | (constructor <;> first | omega | decide)) (fun w2 => by first | (exfalso; omega) | exact absurd w2 (by decide)) (fun w2 => ?_)
            (repeat (first | (refine BW.pl rfl rfl ?_) | (refine CW.geti rfl rfl (by assumption) rfl rfl (by assumption) (fun _ => ?_)) | (refine CW.getr rfl rfl (by assumption) rfl rfl (by assumption) ?_)))
            by_cases y3 : oAct od = 117
            · refine BW.br rfl rfl (by first | omega | decide | (constructor <;> first | omega | decide)) (fun w3 => by first | (exfalso; omega) | exact absurd w3 (by decide)) (fun w3 => ?_)
              (iterate 2 (refine BW.pl rfl rfl ?_))
              exact at82 true ⟨fun _ => ⟨rfl, decide_eq_true (Or.inr (Or.inr y3))⟩, fun _ => rfl⟩
            · refine BW.br rfl rfl (by first | omega | decide | (constructor <;> first | omega | decide)) (fun w3 => ?_) (fun w3 => by first | (exfalso; omega) | exact absurd w3 (by decide))
              (iterate 1 (refine BW.pl rfl rfl ?_))
              exact at82 false ⟨fun w => (by cases w), fun w => absurd (of_decide_eq_true w.2) (fun z => z.elim y1 (fun z => z.elim y2 y3))⟩
  have at39 : ∀ (S2 : BS) (f : Nat) (e1 : Nat), e1 ≤ 17 → f ≤ 40 → LO S2 K la A (B + e1) → XF K V S S2 → (sRange A od = match sAdO A f (oSnd od) with
        | .inl w => .inl w
        | .inr l => if l < f then .inl 1 else if f = 0 ∧ ¬ (oSnd od = none ∧ sAhead (oAct od) = true) then .inl 1 else .inr (f, l)) → BW (d + 184) gm_X1_findRange 39 [some (aR (K 1)), some (aR m), none, none] [aI f] S2 (RgX S K la A B V (sRange A od)) := by
    intro S2 f e1 he1 hf40 hL2 hX2 he
    have hx2 := hL2.1.obx
    have hm2 := (hX2.ob hm kq (oNe rfl) rfl).1
    have h472 := hX2.fe hm kq (oNe rfl) rfl h47 (by decide)
    (repeat (first | (refine BW.pl rfl rfl ?_) | (refine CW.geti rfl rfl (by assumption) rfl rfl (by assumption) (fun _ => ?_)) | (refine CW.getr rfl rfl (by assumption) rfl rfl (by assumption) ?_)))
    cases hsd : oSnd od with
    | none =>
      rw [hsd] at h47a he
      have h47a : r47 = none := h47a
      subst h47a
      have he : sRange A od = if f < f then .inl 1 else if f = 0 ∧ ¬ ((none : Option SAdr) = none ∧ sAhead (oAct od) = true) then .inl 1 else .inr (f, f) := he
      refine CW.nul rfl rfl (fun n h => by cases h) ?_
      (iterate 2 (refine BW.pl rfl rfl ?_))
      exact at50 S2 f f e1 (by omega) hf40 hf40 hL2 hX2 (by rw [hsd]; exact he)
    | some a2 =>
      have h47a' := h47a
      rw [hsd] at h47a' he
      obtain ⟨am, rfl, ha⟩ := h47a'
      have ha2 := ha.xf hX2 hK
      have ham := ha2.2.1
      refine CW.nul rfl rfl (fun n h => by cases h; rw [show S2.1 am = _ from ham]; rfl) ?_
      (repeat (first | (refine BW.pl rfl rfl ?_) | (refine CW.geti rfl rfl (by assumption) rfl rfl (by assumption) (fun _ => ?_)) | (refine CW.getr rfl rfl (by assumption) rfl rfl (by assumption) ?_)))
      have he : sRange A od = match sAdr A a2 with
        | .inl w => .inl w
        | .inr l => if l < f then .inl 1 else if f = 0 ∧ ¬ (some a2 = none ∧ sAhead (oAct od) = true) then .inl 1 else .inr (f, l) := he
      refine CW.x2 rfl rfl (by first | exact Or.inl rfl | exact Or.inr (tagO (by assumption) (by rfl) (by rfl))) (by first | exact Or.inl (by decide) | exact Or.inr ⟨_, rfl, by assumption⟩) rfl rfl (L_numAdr (V := V) hL2 hK ha2 (had2 a2 hsd) hT (by omega)) ?_ ?_
      · intro r S3 h3
        revert h3 he
        cases sAdr A a2 with
        | inl w =>
          rintro he ⟨S1, _, _, q9, e9, _⟩
          cases e9
        | inr l =>
          rintro he ⟨hl, e3, hL3, hX3⟩
          cases e3
          exact at50 S3 f l (e1 + 17) (by omega) hf40 (by omega) (by rw [← Nat.add_assoc]; exact hL3) (hX2.tr hX3) (by rw [hsd]; exact he)
      · intro E q9 S3 h3
        revert h3 he
        cases sAdr A a2 with
        | inl w =>
          rintro he ⟨S1, hL1, hX1, h9⟩
          rw [he]
          exact ⟨S1, hL34 (c := e1 + 17) (by omega) (by rw [← Nat.add_assoc]; exact hL1), hX2.tr hX1, h9⟩
        | inr l =>
          rintro he ⟨hl, e3, _⟩
          cases e3
  have at29 : ¬ (oAll od = true ∨ (oFst od = none ∧ sWide (oAct od) = true)) → BW (d + 184) gm_X1_findRange 29 [some (aR (K 1)), some (aR m), none, none] [] S (RgX S K la A B V (sRange A od)) := by
    intro hc
    rw [if_neg hc] at eS
    (repeat (first | (refine BW.pl rfl rfl ?_) | (refine CW.geti rfl rfl (by assumption) rfl rfl (by assumption) (fun _ => ?_)) | (refine CW.getr rfl rfl (by assumption) rfl rfl (by assumption) ?_)))
    cases hfs : oFst od with
    | none =>
      rw [hfs] at h46a eS
      have h46a : r46 = none := h46a
      subst h46a
      have h5 := hL.1.pres5
      refine CW.nul rfl rfl (fun n h => by cases h) ?_
      (iterate 3 (first | (refine BW.pl rfl rfl ?_) | (refine CW.geti rfl rfl (by assumption) rfl rfl (by assumption) (fun _ => ?_)) | (refine CW.getr rfl rfl (by assumption) rfl rfl (by assumption) ?_)))
      exact at39 S A.2.1 0 (Nat.zero_le _) (by omega) hL XF.rf eS
    | some a1 =>
      have h46a' := h46a
      rw [hfs] at h46a' eS
      obtain ⟨am, rfl, ha⟩ := h46a'
      have ham := ha.2.1
      refine CW.nul rfl rfl (fun n h => by cases h; rw [show S.1 am = _ from ham]; rfl) ?_
      (repeat (first | (refine BW.pl rfl rfl ?_) | (refine CW.geti rfl rfl (by assumption) rfl rfl (by assumption) (fun _ => ?_)) | (refine CW.getr rfl rfl (by assumption) rfl rfl (by assumption) ?_)))
      have eS : sRange A od = match sAdr A a1 with
        | .inl w => .inl w
        | .inr f => match sAdO A f (oSnd od) with
          | .inl w => .inl w
          | .inr l => if l < f then .inl 1 else if f = 0 ∧ ¬ (oSnd od = none ∧ sAhead (oAct od) = true) then .inl 1 else .inr (f, l) := eS
      refine CW.x2 rfl rfl (by first | exact Or.inl rfl | exact Or.inr (tagO (by assumption) (by rfl) (by rfl))) (by first | exact Or.inl (by decide) | exact Or.inr ⟨_, rfl, by assumption⟩) rfl rfl (L_numAdr (V := V) hL hK ha (had1 a1 hfs) hT (by omega)) ?_ ?_
      · intro r S3 h3
        revert h3 eS
        cases sAdr A a1 with
        | inl w =>
          rintro eS ⟨S1, _, _, q9, e9, _⟩
          cases e9
        | inr f =>
          rintro eS ⟨hl, e3, hL3, hX3⟩
          cases e3
          exact at39 S3 f 17 (by omega) (by omega) hL3 hX3 eS
      · intro E q9 S3 h3
        revert h3 eS
        cases sAdr A a1 with
        | inl w =>
          rintro eS ⟨S1, hL1, hX1, h9⟩
          rw [eS]
          exact ⟨S1, hL34 (c := 17) (by omega) hL1, hX1, h9⟩
        | inr l =>
          rintro eS ⟨hl, e3, _⟩
          cases e3
  have h45 : Fi S 45 m (b2i (oAll od)) := h45
  cases hal : oAll od with
  | true =>
    rw [hal] at h45
    replace h45 : Fi S 45 m 1 := h45
    (repeat (first | (refine BW.pl rfl rfl ?_) | (refine CW.geti rfl rfl (by assumption) rfl rfl (by assumption) (fun _ => ?_)) | (refine CW.getr rfl rfl (by assumption) rfl rfl (by assumption) ?_)))
    refine BW.br rfl rfl (by first | omega | decide | (constructor <;> first | omega | decide)) (fun w => ?_) (fun w => by first | (exfalso; omega) | exact absurd w (by decide))
    exact at9 (Or.inl hal)
  | false =>
    rw [hal] at h45
    replace h45 : Fi S 45 m 0 := h45
    (repeat (first | (refine BW.pl rfl rfl ?_) | (refine CW.geti rfl rfl (by assumption) rfl rfl (by assumption) (fun _ => ?_)) | (refine CW.getr rfl rfl (by assumption) rfl rfl (by assumption) ?_)))
    refine BW.br rfl rfl (by first | omega | decide | (constructor <;> first | omega | decide)) (fun w => by first | (exfalso; omega) | exact absurd w (by decide)) (fun w => ?_)
    (repeat (first | (refine BW.pl rfl rfl ?_) | (refine CW.geti rfl rfl (by assumption) rfl rfl (by assumption) (fun _ => ?_)) | (refine CW.getr rfl rfl (by assumption) rfl rfl (by assumption) ?_)))
    cases hfs : oFst od with
    | some a1 =>
      have h46a' := h46a
      rw [hfs] at h46a'
      obtain ⟨am, rfl, ha⟩ := h46a'
      have ham := ha.2.1
      refine CW.nul rfl rfl (fun n h => by cases h; rw [show S.1 am = _ from ham]; rfl) ?_
      exact at29 (fun z => z.elim (fun z => by rw [hal] at z; cases z) (fun z => by rw [hfs] at z; cases z.1))
    | none =>
      have h46a' := h46a
      rw [hfs] at h46a'
      have h46a' : r46 = none := h46a'
      subst h46a'
      refine CW.nul rfl rfl (fun n h => by cases h) ?_
      (repeat (refine BW.pl rfl rfl ?_))
      refine CW.e1 rfl rfl (by first | exact Or.inl rfl | exact Or.inr (tagO (by assumption) (by rfl) (by rfl))) (by first | exact Or.inl (by decide) | exact Or.inr ⟨_, rfl, by assumption⟩) rfl (L_takesAll hm h48 hac) ?_
      by_cases z2 : sWide (oAct od) = true
      · rw [if_pos z2]
        refine BW.br rfl rfl (by first | omega | decide | (constructor <;> first | omega | decide)) (fun w2 => by first | (exfalso; omega) | exact absurd w2 (by decide)) (fun w2 => ?_)
        exact at9 (Or.inr ⟨hfs, z2⟩)
      · rw [if_neg z2]
        refine BW.br rfl rfl (by first | omega | decide | (constructor <;> first | omega | decide)) (fun w2 => ?_) (fun w2 => by first | (exfalso; omega) | exact absurd w2 (by decide))
        exact at29 (fun z => z.elim (fun z => by rw [hal] at z; cases z) (fun z => z2 z.2))
end FR
