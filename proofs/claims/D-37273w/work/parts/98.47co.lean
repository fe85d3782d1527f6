-- C
set_option maxRecDepth 100000
/-! LINEORDERS: a stream: comesTo -/
section CO
variable {d n m q oq ar pq dq a b f y cap c i k B B' st tu p Bm : Nat} {S S' S1 S2 : BS} {K : Nat → Nat} {V F F' W9 W8 : Nat → Prop} {la la1 : Int → Nat} {t pu re rs re' : List SLine} {x z : SLine} {g ov rp run : Bool} {du rows : List (List Int)} {W : WG} {G : BG} {ru ru' : Nat → Nat → RG} {R : RG} {r : Option Nat} {v nn n0 : Int} {h9 o9 : List (List Int)} {fi : Nat → List (List Int)} {mk : Nat → Option Int} {od : SOrd0} {w : Nat} {rg : GO}
/-- an order is come to -/
def CoX (S : BS) (K : Nat → Nat) (F : Nat → Prop) (q oq ar pq dq : Nat) (la : Int → Nat) (t : List SLine) (Sg : SS) (m k i : Nat) (od : SOrd0) (cap B Bm : Nat) (rg : GO) (S' : BS) : Prop := match stCome t.length k i od Sg with
  | .inl w => StR S K F q pq dq la Sg.2.1.2.2.2.2.1 Sg.2.1.2.1 Bm w rg S'
  | .inr (b, Sg1) => rg = .inl (vI (b2i b)) ∧ StW S' K la q oq ar pq dq t Sg1 cap B ∧ XS K (fun j => j = m) (fun j => j = q) S S' ∧ Or0 S' F False m od ∧ RnI S' t.length m od (Sg1.2.2.2.2.2 k i)
theorem bar_mem (x : Int) : x ∈ kstr.getD 6 [] ↔ (x = 108 ∨ x = 111 ∨ x = 79 ∨ x = 109 ∨ x = 116) := by
  show x ∈ [108, 111, 79, 109, 116] ↔ _
  simp only [List.mem_cons, List.not_mem_nil, or_false]
theorem L_comesTo (h : StW S K la q oq ar pq dq t ((x, false, du, pu, re), (h9, o9, fi, mk, nn, rp), st, tu, ov, ru) cap B) (hk : StK K F q ar pq dq) (hw : WS n0 (x, false, du, pu, re) (h9, o9, fi, mk, nn, rp)) (h40 : t.length ≤ 40) (hO : Or0 S F False m od) (hac : 0 ≤ oAct od ∧ oAct od < 128) (hA1 : ∀ a, oFst od = some a → AdK a) (hA2 : ∀ a, oSnd od = some a → AdK a) (h12 : oFst od = none → oSnd od = none) (hR : RnI S t.length m od (ru k i)) (htu : tu < 100000) (hst : st ≤ 400) (hB : B + 6 * cap ≤ Bm) (hBm : Bm ≤ 20000000) : BM (d + 185) gk_X13_comesTo [aR q, aR m] S (CoX S K F q oq ar pq dq la t ((x, false, du, pu, re), (h9, o9, fi, mk, nn, rp), st, tu, ov, ru) m k i od cap B Bm) := by
  have hq := h.1.1.1
  have h89 : Fi S 89 q (st : Int) := h.1.2.2.2.2.1.1.2.2.2
  have km := hk.1 m hO.1
  unfold CoX
  have eC : stCome t.length k i od ((x, false, du, pu, re), (h9, o9, fi, mk, nn, rp), st, tu, ov, ru) = if st = 400 then .inl 7 else if stBar od = true then .inl 8
    else .inr ((stHold t.length (x, false, du, pu, re) (h9, o9, fi, mk, nn, rp) tu od (ru k i)).1, (x, false, du, pu, re), (h9, o9, fi, mk, nn, rp), st + 1, tu, ov, rup ru k i (stHold t.length (x, false, du, pu, re) (h9, o9, fi, mk, nn, rp) tu od (ru k i)).2) := rfl
  rw [eC]
  refine BM.of rfl rfl rfl ?_
  (repeat (first | (refine BW.pl rfl rfl ?_) | (refine CW.geti rfl rfl (by assumption) rfl rfl (by assumption) (fun _ => ?_)) | (refine CW.getr rfl rfl (by assumption) rfl rfl (by assumption) ?_)))
  by_cases z4 : st = 400
  · rw [if_pos z4]
    refine BW.br rfl rfl (by first | omega | decide | (constructor <;> first | omega | decide)) (fun w => ?_) (fun w => by first | (exfalso; omega) | exact absurd w (by decide))
    (repeat (refine BW.pl rfl rfl ?_))
    refine CW.need rfl rfl (by decide) rfl (Or.inl rfl) (by decide) rfl (fun w => absurd w (by decide)) (fun _ r9 S9 hT9 => ?_)
    exact h.stR XS.rf hB hBm hT9
  rw [if_neg z4]
  refine BW.br rfl rfl (by first | omega | decide | (constructor <;> first | omega | decide)) (fun w => by first | (exfalso; omega) | exact absurd w (by decide)) (fun w => ?_)
  (repeat (refine BW.pl rfl rfl ?_))
  refine CW.need rfl rfl (by decide) rfl (Or.inr rfl) (by decide) rfl (fun _ => ?_) (fun w => absurd w (by decide))
  (repeat (first | (refine BW.pl rfl rfl ?_) | (refine CW.geti rfl rfl (by assumption) rfl rfl (by assumption) (fun _ => ?_)) | (refine CW.getr rfl rfl (by assumption) rfl rfl (by assumption) ?_)))
  first | (refine CW.putr rfl rfl (by assumption) rfl (by decide) (fun S1 hP1 h891 => ?_)) | (refine CW.puti rfl (by assumption) rfl (by decide) (by first | exact Or.inl ⟨rfl, by first | omega | decide | (constructor <;> first | omega | decide)⟩ | exact Or.inr (Or.inl ⟨rfl, by first | omega | decide | (constructor <;> first | omega | decide)⟩) | exact Or.inr (Or.inr (Or.inl ⟨rfl, by first | omega | decide | (constructor <;> first | omega | decide)⟩)) | exact Or.inr (Or.inr (Or.inr ⟨rfl, by first | omega | decide | (constructor <;> first | omega | decide)⟩))) (fun S1 hP1 h891 => ?_))
  have h891' : Fi S1 89 q ((st + 1 : Nat) : Int) := by
    have e9 : (st : Int) + 1 = ((st + 1 : Nat) : Int) := by omega
    rw [← e9]; exact h891
  have g1 : StW S1 K la q oq ar pq dq t ((x, false, du, pu, re), (h9, o9, fi, mk, nn, rp), st + 1, tu, ov, ru) cap B := ⟨h.1.puq hk hP1 (by decide) (h.1.2.2.2.2.1.stp hP1 h891'), h.2.puq hP1 (by decide)⟩
  have hO1 : Or0 S1 F False m od := hO.pu hP1 hk.2.2.1
  have hn9 : m ≠ q := fun z => hk.2.2.1 (z ▸ hO.1)
  have hR1 : RnI S1 t.length m od (ru k i) := by
    obtain ⟨a1, a2, a3, a4, a5⟩ := hR
    exact ⟨a1.pu hP1 (Or.inr hn9), a2.pu hP1 (Or.inr hn9), a3.pu hP1 (Or.inr hn9), fun b e1 e2 e3 => (a4 b e1 e2 e3).pu hP1 (Or.inr hn9), fun e => (a5 e).pu hP1 (Or.inr hn9)⟩
  have hX1 : XS K (fun j => j = m) (fun j => j = q) S S1 := XS.rf.st rfl hq (Or.inl rfl) hP1.fr
  have hX1F : XS K F (WSt q pq dq) S S1 := XS.rf.st (Or.inl rfl) hq (Or.inl rfl) hP1.fr
  have hm1 := hO1.2.1
  have hq1 := g1.1.1.1
  obtain ⟨_, _, _, ⟨r3, h46, hF1⟩, ⟨r5, h47, hS1⟩, h48, _⟩ := id hO1
  have hF1 : AdO S1 F r3 (oFst od) := hF1
  have hS1 : AdO S1 F r5 (oSnd od) := hS1
  have h48 : Fi S1 48 m (oAct od) := h48
  have eB : stBar od = (decide (oAct od = 108 ∨ oAct od = 111 ∨ oAct od = 79 ∨ oAct od = 109 ∨ oAct od = 116) || stBarA (oFst od) || stBarA (oSnd od)) := rfl
  -- it is barred
  have at32 : stBar od = true → BW (d + 184) gm_X13_comesTo 32 [some (aR q), some (aR m)] [] S1 (fun rg S' => match (if stBar od = true then .inl 8 else .inr ((stHold t.length (x, false, du, pu, re) (h9, o9, fi, mk, nn, rp) tu od (ru k i)).1, (x, false, du, pu, re), (h9, o9, fi, mk, nn, rp), st + 1, tu, ov, rup ru k i (stHold t.length (x, false, du, pu, re) (h9, o9, fi, mk, nn, rp) tu od (ru k i)).2) : Nat ⊕ (Bool × SS)) with
      | .inl w => StR S K F q pq dq la nn o9 Bm w rg S'
      | .inr (b, Sg1) => rg = .inl (vI (b2i b)) ∧ StW S' K la q oq ar pq dq t Sg1 cap B ∧ XS K (fun j => j = m) (fun j => j = q) S S' ∧ Or0 S' F False m od ∧ RnI S' t.length m od (Sg1.2.2.2.2.2 k i)) := fun hb => by
    rw [if_pos hb]
    (repeat (refine BW.pl rfl rfl ?_))
    refine CW.need rfl rfl (by decide) rfl (Or.inl rfl) (by decide) rfl (fun w => absurd w (by decide)) (fun _ r9 S9 hT9 => ?_)
    exact g1.stR hX1F hB hBm hT9
  refine BW.kst (fun hKs => ?_)
  have k6 : Ob S1 262 (oStr (kstr.getD 6 [])) := hKs 262 (by decide)
  have kl6 : (kstr.getD 6 []).length = 5 := rfl
  (repeat (first | (refine BW.pl rfl rfl ?_) | (refine CW.geti rfl rfl (by assumption) rfl rfl (by assumption) (fun _ => ?_)) | (refine CW.getr rfl rfl (by assumption) rfl rfl (by assumption) ?_)))
  refine CW.e2 rfl rfl (by first | exact Or.inl rfl | exact Or.inr (tagO (by assumption) (by rfl) (by rfl)) | exact Or.inr (tagO (AdrIs.ox (by assumption)) (by rfl) (by rfl)) | exact Or.inr (tagO (PatIs.ox (by assumption)) (by rfl) (by rfl)) | exact Or.inr (tagO (Or0.ox (by assumption)) (by rfl) (by rfl))) (by first | exact Or.inl (by decide) | exact Or.inr ⟨_, rfl, by assumption⟩) rfl (B_sidx (d := d + 180) k6 hac) ?_
  have hsr := sidx_R (oAct od) (kstr.getD 6 []) 0 (by decide)
  by_cases zb : oAct od = 108 ∨ oAct od = 111 ∨ oAct od = 79 ∨ oAct od = 109 ∨ oAct od = 116
  · have zs : 0 ≤ sidx (oAct od) (kstr.getD 6 []) 0 := (sidx_mem _ _ 0 (Int.le_refl _)).mpr ((bar_mem _).mpr zb)
    have hb : stBar od = true := by rw [eB, decide_eq_true zb]; rfl
    clear zb
    refine BW.br rfl rfl (by first | omega | decide | (constructor <;> first | omega | decide)) (fun w2 => ?_) (fun w2 => by first | (exfalso; omega) | exact absurd w2 (by decide))
    exact at32 hb
  have zs : ¬ 0 ≤ sidx (oAct od) (kstr.getD 6 []) 0 := fun z => zb ((bar_mem _).mp ((sidx_mem _ _ 0 (Int.le_refl _)).mp z))
  rw [decide_eq_false zb] at eB
  clear zb
  refine BW.br rfl rfl (by first | omega | decide | (constructor <;> first | omega | decide)) (fun w2 => by first | (exfalso; omega) | exact absurd w2 (by decide)) (fun w2 => ?_)
  (repeat (first | (refine BW.pl rfl rfl ?_) | (refine CW.geti rfl rfl (by assumption) rfl rfl (by assumption) (fun _ => ?_)) | (refine CW.getr rfl rfl (by assumption) rfl rfl (by assumption) ?_)))
  refine CW.e2 rfl rfl (by first | exact Or.inl rfl | exact Or.inr (tagO (by assumption) (by rfl) (by rfl)) | exact Or.inr (tagO (AdrIs.ox (by assumption)) (by rfl) (by rfl)) | exact Or.inr (tagO (PatIs.ox (by assumption)) (by rfl) (by rfl)) | exact Or.inr (tagO (Or0.ox (by assumption)) (by rfl) (by rfl))) (by first | exact Or.inl (by decide) | exact Or.inr ⟨_, rfl, by assumption⟩) rfl (L_mayStand (d := d + 182) hF1) ?_
  cases zf : stBarA (oFst od) with
  | true =>
    rw [if_pos rfl]
    refine BW.br rfl rfl (by first | omega | decide | (constructor <;> first | omega | decide)) (fun w3 => ?_) (fun w3 => by first | (exfalso; omega) | exact absurd w3 (by decide))
    exact at32 (by rw [eB, zf]; rfl)
  | false =>
    rw [if_neg (by decide)]
    refine BW.br rfl rfl (by first | omega | decide | (constructor <;> first | omega | decide)) (fun w3 => by first | (exfalso; omega) | exact absurd w3 (by decide)) (fun w3 => ?_)
    (repeat (first | (refine BW.pl rfl rfl ?_) | (refine CW.geti rfl rfl (by assumption) rfl rfl (by assumption) (fun _ => ?_)) | (refine CW.getr rfl rfl (by assumption) rfl rfl (by assumption) ?_)))
    refine CW.e2 rfl rfl (by first | exact Or.inl rfl | exact Or.inr (tagO (by assumption) (by rfl) (by rfl)) | exact Or.inr (tagO (AdrIs.ox (by assumption)) (by rfl) (by rfl)) | exact Or.inr (tagO (PatIs.ox (by assumption)) (by rfl) (by rfl)) | exact Or.inr (tagO (Or0.ox (by assumption)) (by rfl) (by rfl))) (by first | exact Or.inl (by decide) | exact Or.inr ⟨_, rfl, by assumption⟩) rfl (L_mayStand (d := d + 182) hS1) ?_
    cases zs2 : stBarA (oSnd od) with
    | true =>
      rw [if_pos rfl]
      refine BW.br rfl rfl (by first | omega | decide | (constructor <;> first | omega | decide)) (fun w4 => ?_) (fun w4 => by first | (exfalso; omega) | exact absurd w4 (by decide))
      exact at32 (by rw [eB, zf, zs2]; rfl)
    | false =>
      rw [if_neg (by decide)]
      have hb : stBar od = false := by rw [eB, zf, zs2]; rfl
      rw [if_neg (by rw [hb]; decide)]
      refine BW.br rfl rfl (by first | omega | decide | (constructor <;> first | omega | decide)) (fun w4 => by first | (exfalso; omega) | exact absurd w4 (by decide)) (fun w4 => ?_)
      (repeat (refine BW.pl rfl rfl ?_))
      refine CW.need rfl rfl (by decide) rfl (Or.inr rfl) (by decide) rfl (fun _ => ?_) (fun w => absurd w (by decide))
      (repeat (refine BW.pl rfl rfl ?_))
      refine CW.c2 rfl rfl (by first | exact Or.inl rfl | exact Or.inr (tagO (by assumption) (by rfl) (by rfl)) | exact Or.inr (tagO (AdrIs.ox (by assumption)) (by rfl) (by rfl)) | exact Or.inr (tagO (PatIs.ox (by assumption)) (by rfl) (by rfl)) | exact Or.inr (tagO (Or0.ox (by assumption)) (by rfl) (by rfl))) (by first | exact Or.inl (by decide) | exact Or.inr ⟨_, rfl, by assumption⟩) rfl (L_holds (d := d) g1 hk hw h40 hO1 hA1 hA2 h12 hR1 htu) ?_
      rintro r S2 ⟨rfl, a1, a2, a3, a4⟩
      generalize stHold t.length (x, false, du, pu, re) (h9, o9, fi, mk, nn, rp) tu od (ru k i) = HH at a4 ⊢
      obtain ⟨b, R2⟩ := HH
      have go : ((.inl (some (.inl (b2i b))) : GO) = .inl (vI (b2i b)) ∧ StW S2 K la q oq ar pq dq t ((x, false, du, pu, re), (h9, o9, fi, mk, nn, rp), st + 1, tu, ov, rup ru k i R2) cap B ∧ XS K (fun j => j = m) (fun j => j = q) S S2 ∧ Or0 S2 F False m od ∧ RnI S2 t.length m od (rup ru k i R2 k i)) := by
        refine ⟨rfl, a1, hX1.tr (a2.mono (fun _ z => z) (fun _ z => z.elim)), a3, ?_⟩
        unfold rup
        rw [if_pos ⟨rfl, rfl⟩]
        exact a4
      cases b with
      | true => exact BW.irx rfl (Or.inr (Or.inl ⟨rfl, Or.inr rfl⟩)) go
      | false => exact BW.irx rfl (Or.inr (Or.inl ⟨rfl, Or.inl rfl⟩)) go
end CO
