-- B
set_option maxRecDepth 100000
/-! THE READER: the sign at hand; frames -/
/-- what a run leaves alone: all objects there are but those in W; it costs at most c -/
def Fr (S S' : BS) (W : Nat → Prop) (c : Nat) : Prop := (∀ m, S.1 m ≠ oNil → S'.1 m ≠ oNil) ∧ (∀ m, S.1 m ≠ oNil → ¬ W m → S'.1 m = S.1 m ∧ ∀ F, F < 91 → S'.2.1 F m = S.2.1 F m ∧ S'.2.2.1 F m = S.2.2.1 F m) ∧ S'.2.2.2 ≤ S.2.2.2 + c
theorem Fr.rf {S : BS} {W : Nat → Prop} : Fr S S W 0 := ⟨fun _ h => h, fun _ _ _ => ⟨rfl, fun _ _ => ⟨rfl, rfl⟩⟩, Nat.le_refl _⟩
theorem Fr.le {S S' : BS} {W W' : Nat → Prop} {c c' : Nat} (h : Fr S S' W c) (hc : c ≤ c') (hW : ∀ m, S.1 m ≠ oNil → W m → W' m) : Fr S S' W' c' := ⟨h.1, fun m h1 h2 => h.2.1 m h1 (fun z => h2 (hW m h1 z)), Nat.le_trans h.2.2 (Nat.add_le_add_left hc _)⟩
theorem Fr.tr {S S1 S2 : BS} {W W2 : Nat → Prop} {c c2 : Nat} (h : Fr S S1 W c) (h2 : Fr S1 S2 W2 c2) (hW : ∀ m, S.1 m ≠ oNil → W2 m → W m) : Fr S S2 W (c + c2) := by
  refine ⟨fun m hm => h2.1 m (h.1 m hm), fun m hm hw => ?_, by have := h.2.2; have := h2.2.2; omega⟩
  obtain ⟨a1, a2⟩ := h.2.1 m hm hw
  obtain ⟨b1, b2⟩ := h2.2.1 m (h.1 m hm) (fun z => hw (hW m hm z))
  exact ⟨b1.trans a1, fun F hF => ⟨(b2 F hF).1.trans (a2 F hF).1, (b2 F hF).2.trans (a2 F hF).2⟩⟩
section RD
variable {d i a n : Nat} {b : Int} {M : GMeth} {ls : GL} {st : List GV} {H : Nat → Obj} {fi : Nat → Nat → Int} {fr : Nat → Nat → Option Nat} {t : Nat} {S : BS} {Q : GO → BS → Prop}
theorem BW.i2l {x : Int} (hC : M.2.2.1[i]? = some (20, a, b)) (h : inR x) (k : BW d M (i + 1) ls (.inr (.inl x) :: st) S Q) : BW d M i ls (.inl x :: st) S Q := fun g hR => GW.i2l hC h (k g hR)
theorem BW.lcmp {x y : Int} (hC : M.2.2.1[i]? = some (54, a, b)) (h : inL x ∧ inL y) (k : BW d M (i + 1) ls (.inl (if x < y then -1 else if x = y then 0 else 1) :: st) S Q) : BW d M i ls (.inr (.inl y) :: .inr (.inl x) :: st) S Q := fun g hR => GW.lcmp hC h (k g hR)
/-- Lineorders.in: from .. to -/
theorem B_in {x y z : Int} (hx : inR x) (hy : inR y) (hz : inR z) : BE (d + 1) gk_X1_in [aL x, aL y, aL z] S (vI (if y ≤ x ∧ x ≤ z then 1 else 0)) := by
  refine BM.ofl rfl rfl ?_
  (repeat (refine BW.pl rfl rfl ?_))
  refine BW.lcmp rfl (by omega) ?_
  refine BW.br rfl rfl (by first | omega | decide | (constructor <;> first | omega | decide)) (fun h1 => ?_) (fun h1 => ?_)
  · (repeat (refine BW.pl rfl rfl ?_))
    exact BW.irx rfl (Or.inr (Or.inl ⟨rfl, Or.inl rfl⟩)) ⟨_, rfl, by rw [if_neg (by split at h1 <;> omega)], rfl⟩
  · (repeat (refine BW.pl rfl rfl ?_))
    refine BW.lcmp rfl (by omega) ?_
    refine BW.br rfl rfl (by first | omega | decide | (constructor <;> first | omega | decide)) (fun h2 => ?_) (fun h2 => ?_)
    · (repeat (refine BW.pl rfl rfl ?_))
      exact BW.irx rfl (Or.inr (Or.inl ⟨rfl, Or.inl rfl⟩)) ⟨_, rfl, by rw [if_neg (by split at h2 <;> omega)], rfl⟩
    · (repeat (refine BW.pl rfl rfl ?_))
      exact BW.irx rfl (Or.inr (Or.inl ⟨rfl, Or.inr rfl⟩)) ⟨_, rfl, by rw [if_pos (by split at h1 <;> split at h2 <;> omega)], rfl⟩
/-- the reader n stands ahead of l in s, all whose signs are 0 .. 127 -/
def RdAt (S : BS) (n : Nat) (s l : List Int) : Prop := S.1 n = oOwn 10 ∧ (∃ x, S.2.2.1 74 n = some x ∧ S.1 x = oStr s) ∧ s.length < 10000 ∧ (∀ c ∈ s, 0 ≤ c ∧ c < 128) ∧ ∃ k : Nat, S.2.1 75 n = k ∧ k ≤ s.length ∧ s.drop k = l
/-- the sign at hand, -1 at the end -/
def lk (l : List Int) : Int := match l with
  | [] => -1
  | c :: _ => c
theorem lk_R {s l : List Int} (hs : ∀ c ∈ s, 0 ≤ c ∧ c < 128) {k : Nat} (h : s.drop k = l) : -1 ≤ lk l ∧ lk l < 128 := by
  cases l with
  | nil => exact ⟨by decide, by decide⟩
  | cons c l =>
    have := hs c (List.mem_of_mem_drop (by rw [h]; exact List.mem_cons_self))
    exact ⟨by show -1 ≤ c; omega, by show c < 128; omega⟩
theorem drop_len {s l : List Int} {k : Nat} (hk : k ≤ s.length) (h : s.drop k = l) : l.length + k = s.length := by
  rw [← h, List.length_drop]; omega
theorem drop_getD {s l : List Int} {k : Nat} {c : Int} (h : s.drop k = c :: l) : s.getD k 0 = c := by
  have := congrArg (fun z : List Int => z.getD 0 0) h
  simpa [List.getD_eq_getElem?_getD] using this
theorem B_look {s l : List Int} (h : RdAt (H, fi, fr, t) n s l) : BE (d + 5) gk_X3_look [aR n] (H, fi, fr, t) (vI (lk l)) := by
  obtain ⟨hn, ⟨x, hx, hs⟩, hl, hc, k, hk, hk1, hk2⟩ := h
  have hn : H n = oOwn 10 := hn
  have hx : fr 74 n = some x := hx
  have hs : H x = oStr s := hs
  have hk : fi 75 n = k := hk
  have hd := drop_len hk1 hk2
  refine BM.of rfl rfl rfl ?_
  (repeat (first | (refine BW.pl rfl rfl ?_) | (refine BW.geti rfl rfl (by first | assumption | exact upH_eq | exact (upH_ne (by assumption)).trans (by assumption) | exact (upH_ne (Ne.symm (by assumption))).trans (by assumption)) rfl rfl (by first | assumption | rfl | (simp only [upI, upR, Nat.reduceEqDiff, false_and, true_and, and_true, reduceIte]; first | rfl | assumption)) (fun _ => ?_)) | (refine BW.getr rfl rfl (by first | assumption | exact upH_eq | exact (upH_ne (by assumption)).trans (by assumption) | exact (upH_ne (Ne.symm (by assumption))).trans (by assumption)) rfl rfl (by first | assumption | rfl | (simp only [upI, upR, Nat.reduceEqDiff, false_and, true_and, and_true, reduceIte]; first | rfl | assumption)) ?_)))
  refine BW.c1 rfl rfl (by first | exact Or.inl rfl | exact Or.inr (tagH (by first | assumption | exact upH_eq | exact (upH_ne (by assumption)).trans (by assumption) | exact (upH_ne (Ne.symm (by assumption))).trans (by assumption)) (by rfl) (by rfl))) (by first | exact Or.inl (by decide) | exact Or.inr ⟨_, rfl, by assumption⟩) rfl (B_slen (d := d + 2) hs) ?_; rintro _ _ ⟨rfl, rfl⟩
  refine BW.br rfl rfl (by first | omega | decide | (constructor <;> first | omega | decide)) (fun z => ?_) (fun z => ?_)
  · (repeat (first | (refine BW.pl rfl rfl ?_) | (refine BW.geti rfl rfl (by first | assumption | exact upH_eq | exact (upH_ne (by assumption)).trans (by assumption) | exact (upH_ne (Ne.symm (by assumption))).trans (by assumption)) rfl rfl (by first | assumption | rfl | (simp only [upI, upR, Nat.reduceEqDiff, false_and, true_and, and_true, reduceIte]; first | rfl | assumption)) (fun _ => ?_)) | (refine BW.getr rfl rfl (by first | assumption | exact upH_eq | exact (upH_ne (by assumption)).trans (by assumption) | exact (upH_ne (Ne.symm (by assumption))).trans (by assumption)) rfl rfl (by first | assumption | rfl | (simp only [upI, upR, Nat.reduceEqDiff, false_and, true_and, and_true, reduceIte]; first | rfl | assumption)) ?_)))
    refine BW.irx rfl (Or.inl ⟨rfl, by omega⟩) ⟨_, rfl, ?_, rfl⟩
    cases l with
    | nil => rfl
    | cons c l => simp at hd; omega
  · cases l with
    | nil => simp at hd; omega
    | cons c l =>
      (repeat (first | (refine BW.pl rfl rfl ?_) | (refine BW.geti rfl rfl (by first | assumption | exact upH_eq | exact (upH_ne (by assumption)).trans (by assumption) | exact (upH_ne (Ne.symm (by assumption))).trans (by assumption)) rfl rfl (by first | assumption | rfl | (simp only [upI, upR, Nat.reduceEqDiff, false_and, true_and, and_true, reduceIte]; first | rfl | assumption)) (fun _ => ?_)) | (refine BW.getr rfl rfl (by first | assumption | exact upH_eq | exact (upH_ne (by assumption)).trans (by assumption) | exact (upH_ne (Ne.symm (by assumption))).trans (by assumption)) rfl rfl (by first | assumption | rfl | (simp only [upI, upR, Nat.reduceEqDiff, false_and, true_and, and_true, reduceIte]; first | rfl | assumption)) ?_)))
      refine BW.c2 rfl rfl (by first | exact Or.inl rfl | exact Or.inr (tagH (by first | assumption | exact upH_eq | exact (upH_ne (by assumption)).trans (by assumption) | exact (upH_ne (Ne.symm (by assumption))).trans (by assumption)) (by rfl) (by rfl))) (by first | exact Or.inl (by decide) | exact Or.inr ⟨_, rfl, by assumption⟩) rfl (B_schar (d := d) hs (i := k) (by omega)) ?_; rintro _ _ ⟨rfl, rfl⟩
      have e := drop_getD hk2
      have hm := hc c (List.mem_of_mem_drop (by rw [hk2]; exact List.mem_cons_self))
      (repeat (refine BW.pl rfl rfl ?_))
      refine BW.irx rfl (Or.inl ⟨rfl, ?_⟩) ⟨_, rfl, ?_, rfl⟩
      · rw [Int.toNat_natCast, e]; omega
      · rw [Int.toNat_natCast, e]; rfl
end RD
