-- B
set_option maxRecDepth 100000
/-! THE READER: one step on -/
section RD
variable {d i a n : Nat} {b : Int} {M : GMeth} {ls : GL} {st : List GV} {H : Nat → Obj} {fi : Nat → Nat → Int} {fr : Nat → Nat → Option Nat} {t : Nat} {S : BS} {Q : GO → BS → Prop} {s l : List Int}
/-- the reader has gone k signs on -/
def rdGo (S : BS) (n : Nat) (k : Int) : BS := (S.1, upI S.2.1 75 n (S.2.1 75 n + k), S.2.2.1, S.2.2.2)
theorem RdAt.go {c : Int} (h : RdAt S n s (c :: l)) : RdAt (rdGo S n 1) n s l := by
  obtain ⟨hn, hx, hl, hc, k, hk, hk1, hk2⟩ := h
  have hd := drop_len hk1 hk2
  refine ⟨hn, hx, hl, hc, k + 1, ?_, ?_, ?_⟩
  · show upI S.2.1 75 n (S.2.1 75 n + 1) 75 n = _
    rw [show upI S.2.1 75 n (S.2.1 75 n + 1) 75 n = S.2.1 75 n + 1 from if_pos ⟨rfl, rfl⟩, hk]; omega
  · simp at hd; omega
  · rw [← List.drop_drop, hk2]; rfl
theorem RdAt.go0 (h : RdAt S n s l) : RdAt (rdGo S n 0) n s l := by
  obtain ⟨hn, hx, hl, hc, k, hk, hk1, hk2⟩ := h
  refine ⟨hn, hx, hl, hc, k, ?_, hk1, hk2⟩
  rw [show (rdGo S n 0).2.1 75 n = S.2.1 75 n + 0 from if_pos ⟨rfl, rfl⟩, hk]; omega
theorem RdAt.at (h : RdAt S n s l) : S.2.1 75 n = (s.length : Int) - l.length ∧ l.length ≤ s.length ∧ s.length < 10000 := by
  obtain ⟨hn, hx, hl, hc, k, hk, hk1, hk2⟩ := h
  have hd := drop_len hk1 hk2
  rw [hk]; omega
theorem RdAt.gofr (h : RdAt S n s l) (k : Int) : Fr S (rdGo S n k) (fun m => m = n) 0 := ⟨fun _ z => z, fun m _ hm => ⟨rfl, fun F _ => ⟨if_neg (fun z => hm z.2), rfl⟩⟩, Nat.le_refl _⟩
theorem B_next {c : Int} (h : RdAt S n s (c :: l)) : BMr (d + 5) gk_X3_next [aR n] S (fun r S' => r = vI c ∧ S' = rdGo S n 1) := by
  have h0 := h.at
  obtain ⟨H, fi, fr, t⟩ := S
  obtain ⟨hn, ⟨x, hx, hs⟩, hl, hc, k, hk, hk1, hk2⟩ := h
  have hn : H n = oOwn 10 := hn
  have hx : fr 74 n = some x := hx
  have hs : H x = oStr s := hs
  have hk : fi 75 n = k := hk
  have hd := drop_len hk1 hk2
  simp at hd
  refine BM.of rfl rfl rfl ?_
  (repeat (first | (refine BW.pl rfl rfl ?_) | (refine BW.geti rfl rfl (by first | assumption | exact upH_eq | exact (upH_ne (by assumption)).trans (by assumption) | exact (upH_ne (Ne.symm (by assumption))).trans (by assumption)) rfl rfl (by first | assumption | rfl | (simp only [upI, upR, Nat.reduceEqDiff, false_and, true_and, and_true, reduceIte]; first | rfl | assumption)) (fun _ => ?_)) | (refine BW.getr rfl rfl (by first | assumption | exact upH_eq | exact (upH_ne (by assumption)).trans (by assumption) | exact (upH_ne (Ne.symm (by assumption))).trans (by assumption)) rfl rfl (by first | assumption | rfl | (simp only [upI, upR, Nat.reduceEqDiff, false_and, true_and, and_true, reduceIte]; first | rfl | assumption)) ?_)))
  refine BW.c2 rfl rfl (by first | exact Or.inl rfl | exact Or.inr (tagH (by first | assumption | exact upH_eq | exact (upH_ne (by assumption)).trans (by assumption) | exact (upH_ne (Ne.symm (by assumption))).trans (by assumption)) (by rfl) (by rfl))) (by first | exact Or.inl (by decide) | exact Or.inr ⟨_, rfl, by assumption⟩) rfl (B_schar (d := d) hs (i := k) (by omega)) ?_; rintro _ _ ⟨rfl, rfl⟩
  have e := drop_getD hk2
  have hm := hc c (List.mem_of_mem_drop (by rw [hk2]; exact List.mem_cons_self))
  rw [Int.toNat_natCast, e]
  (repeat (first | (refine BW.pl rfl rfl ?_) | (refine BW.geti rfl rfl (by first | assumption | exact upH_eq | exact (upH_ne (by assumption)).trans (by assumption) | exact (upH_ne (Ne.symm (by assumption))).trans (by assumption)) rfl rfl (by first | assumption | rfl | (simp only [upI, upR, Nat.reduceEqDiff, false_and, true_and, and_true, reduceIte]; first | rfl | assumption)) (fun _ => ?_)) | (refine BW.getr rfl rfl (by first | assumption | exact upH_eq | exact (upH_ne (by assumption)).trans (by assumption) | exact (upH_ne (Ne.symm (by assumption))).trans (by assumption)) rfl rfl (by first | assumption | rfl | (simp only [upI, upR, Nat.reduceEqDiff, false_and, true_and, and_true, reduceIte]; first | rfl | assumption)) ?_)))
  first | (refine BW.putr rfl rfl (by first | assumption | exact upH_eq | exact (upH_ne (by assumption)).trans (by assumption) | exact (upH_ne (Ne.symm (by assumption))).trans (by assumption)) rfl (by decide) ?_) | (refine BW.putx rfl (by first | assumption | exact upH_eq | exact (upH_ne (by assumption)).trans (by assumption) | exact (upH_ne (Ne.symm (by assumption))).trans (by assumption)) rfl (by decide) (by first | exact Or.inl ⟨rfl, by first | omega | decide | (constructor <;> first | omega | decide)⟩ | exact Or.inr (Or.inl ⟨rfl, by first | omega | decide | (constructor <;> first | omega | decide)⟩) | exact Or.inr (Or.inr (Or.inl ⟨rfl, by first | omega | decide | (constructor <;> first | omega | decide)⟩)) | exact Or.inr (Or.inr (Or.inr ⟨rfl, by first | omega | decide | (constructor <;> first | omega | decide)⟩))) ?_)
  (repeat (refine BW.pl rfl rfl ?_))
  refine BW.irx rfl (Or.inr (Or.inr (Or.inl ⟨rfl, by omega⟩))) ⟨_, rfl, rfl, ?_⟩
  rw [← hk]; rfl
theorem B_passes {c : Int} (h : RdAt S n s l) (hc : 0 ≤ c ∧ c < 128) : BMr (d + 6) gk_X3_passes [aR n, aI c] S (fun r S' => r = vI (if lk l = c then 1 else 0) ∧ S' = rdGo S n (if lk l = c then 1 else 0)) := by
  have hR := h.R
  have h0 := h.at
  obtain ⟨H, fi, fr, t⟩ := S
  have hn : H n = oOwn 10 := h.1
  have h0 : fi 75 n = (s.length : Int) - l.length ∧ l.length ≤ s.length ∧ s.length < 10000 := h0
  refine BM.of rfl rfl rfl ?_
  (repeat (refine BW.pl rfl rfl ?_))
  refine BW.c1 rfl rfl (by first | exact Or.inl rfl | exact Or.inr (tagH (by first | assumption | exact upH_eq | exact (upH_ne (by assumption)).trans (by assumption) | exact (upH_ne (Ne.symm (by assumption))).trans (by assumption)) (by rfl) (by rfl))) (by first | exact Or.inl (by decide) | exact Or.inr ⟨_, rfl, by assumption⟩) rfl (B_look (d := d) h) ?_; rintro _ _ ⟨rfl, rfl⟩
  (repeat (refine BW.pl rfl rfl ?_))
  refine BW.br rfl rfl (by first | omega | decide | (constructor <;> first | omega | decide)) (fun z => ?_) (fun z => ?_)
  · (repeat (refine BW.pl rfl rfl ?_))
    rw [if_neg z]
    (repeat (first | (refine BW.pl rfl rfl ?_) | (refine BW.geti rfl rfl (by first | assumption | exact upH_eq | exact (upH_ne (by assumption)).trans (by assumption) | exact (upH_ne (Ne.symm (by assumption))).trans (by assumption)) rfl rfl (by first | assumption | rfl | (simp only [upI, upR, Nat.reduceEqDiff, false_and, true_and, and_true, reduceIte]; first | rfl | assumption)) (fun _ => ?_)) | (refine BW.getr rfl rfl (by first | assumption | exact upH_eq | exact (upH_ne (by assumption)).trans (by assumption) | exact (upH_ne (Ne.symm (by assumption))).trans (by assumption)) rfl rfl (by first | assumption | rfl | (simp only [upI, upR, Nat.reduceEqDiff, false_and, true_and, and_true, reduceIte]; first | rfl | assumption)) ?_)))
    refine BW.br rfl rfl (by first | omega | decide | (constructor <;> first | omega | decide)) (fun w => ?_) (fun w => ?_)
    · (repeat (refine BW.pl rfl rfl ?_))
      first | (refine BW.putr rfl rfl (by first | assumption | exact upH_eq | exact (upH_ne (by assumption)).trans (by assumption) | exact (upH_ne (Ne.symm (by assumption))).trans (by assumption)) rfl (by decide) ?_) | (refine BW.putx rfl (by first | assumption | exact upH_eq | exact (upH_ne (by assumption)).trans (by assumption) | exact (upH_ne (Ne.symm (by assumption))).trans (by assumption)) rfl (by decide) (by first | exact Or.inl ⟨rfl, by first | omega | decide | (constructor <;> first | omega | decide)⟩ | exact Or.inr (Or.inl ⟨rfl, by first | omega | decide | (constructor <;> first | omega | decide)⟩) | exact Or.inr (Or.inr (Or.inl ⟨rfl, by first | omega | decide | (constructor <;> first | omega | decide)⟩)) | exact Or.inr (Or.inr (Or.inr ⟨rfl, by first | omega | decide | (constructor <;> first | omega | decide)⟩))) ?_)
      (repeat (refine BW.pl rfl rfl ?_))
      exact BW.irx rfl (Or.inr (Or.inl ⟨rfl, Or.inl rfl⟩)) ⟨_, rfl, rfl, rfl⟩
    · exact absurd rfl w
  · (repeat (refine BW.pl rfl rfl ?_))
    rw [if_pos z]
    (repeat (first | (refine BW.pl rfl rfl ?_) | (refine BW.geti rfl rfl (by first | assumption | exact upH_eq | exact (upH_ne (by assumption)).trans (by assumption) | exact (upH_ne (Ne.symm (by assumption))).trans (by assumption)) rfl rfl (by first | assumption | rfl | (simp only [upI, upR, Nat.reduceEqDiff, false_and, true_and, and_true, reduceIte]; first | rfl | assumption)) (fun _ => ?_)) | (refine BW.getr rfl rfl (by first | assumption | exact upH_eq | exact (upH_ne (by assumption)).trans (by assumption) | exact (upH_ne (Ne.symm (by assumption))).trans (by assumption)) rfl rfl (by first | assumption | rfl | (simp only [upI, upR, Nat.reduceEqDiff, false_and, true_and, and_true, reduceIte]; first | rfl | assumption)) ?_)))
    refine BW.br rfl rfl (by first | omega | decide | (constructor <;> first | omega | decide)) (fun w => ?_) (fun w => ?_)
    · exact absurd w (by decide)
    · (repeat (refine BW.pl rfl rfl ?_))
      first | (refine BW.putr rfl rfl (by first | assumption | exact upH_eq | exact (upH_ne (by assumption)).trans (by assumption) | exact (upH_ne (Ne.symm (by assumption))).trans (by assumption)) rfl (by decide) ?_) | (refine BW.putx rfl (by first | assumption | exact upH_eq | exact (upH_ne (by assumption)).trans (by assumption) | exact (upH_ne (Ne.symm (by assumption))).trans (by assumption)) rfl (by decide) (by first | exact Or.inl ⟨rfl, by first | omega | decide | (constructor <;> first | omega | decide)⟩ | exact Or.inr (Or.inl ⟨rfl, by first | omega | decide | (constructor <;> first | omega | decide)⟩) | exact Or.inr (Or.inr (Or.inl ⟨rfl, by first | omega | decide | (constructor <;> first | omega | decide)⟩)) | exact Or.inr (Or.inr (Or.inr ⟨rfl, by first | omega | decide | (constructor <;> first | omega | decide)⟩))) ?_)
      (repeat (refine BW.pl rfl rfl ?_))
      exact BW.irx rfl (Or.inr (Or.inl ⟨rfl, Or.inr rfl⟩)) ⟨_, rfl, rfl, rfl⟩
end RD
