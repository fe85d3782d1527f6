-- B
set_option maxRecDepth 100000
/-! Fault and Refused: made and thrown -/
section EX
variable {d n : Nat} {H : Nat → Obj} {fi : Nat → Nat → Int} {fr : Nat → Nat → Option Nat} {t : Nat}
theorem B_excInit {c : Nat} (hn : H n = oOwn c) (hc : c = 5 ∨ c = 11) (h1000 : 1000 ≤ n) : BMr (d + 2) gk_J17_init_2 [aR n, aQ none, aQ none, aI 0, aI 0] (H, fi, fr, t) (fun r S' => r = none ∧ S' = (H, fi, excR fr n, t)) := by
  refine BM.of rfl rfl rfl ?_
  (repeat (refine BW.pl rfl rfl ?_))
  refine BW.c5 rfl rfl (by first | exact Or.inl rfl | exact Or.inr (tagH (by first | assumption | exact upH_eq | exact (upH_ne (by assumption)).trans (by assumption) | exact (upH_ne (Ne.symm (by assumption))).trans (by assumption)) (by rfl) (by rfl))) (by first | exact Or.inl (by decide) | exact Or.inr ⟨_, rfl, by assumption⟩) rfl (B_thrInit (d := d) hn hc h1000) ?_
  rintro r S' ⟨rfl, rfl⟩
  exact BW.ret rfl rfl ⟨_, rfl, rfl, rfl⟩
theorem B_fltInit (hn : H n = oOwn 5) (h1000 : 1000 ≤ n) {v : Int} (hv : inR v) : BMr (d + 3) gk_X5_init [aR n, aI v] (H, fi, fr, t) (fun r S' => r = none ∧ S' = (H, upI fi 42 n v, excR fr n, t)) := by
  refine BM.of rfl rfl rfl ?_
  (repeat (refine BW.pl rfl rfl ?_))
  refine BW.c5 rfl rfl (by first | exact Or.inl rfl | exact Or.inr (tagH (by first | assumption | exact upH_eq | exact (upH_ne (by assumption)).trans (by assumption) | exact (upH_ne (Ne.symm (by assumption))).trans (by assumption)) (by rfl) (by rfl))) (by first | exact Or.inl (by decide) | exact Or.inr ⟨_, rfl, by assumption⟩) rfl (B_excInit (d := d) hn (Or.inl rfl) h1000) ?_
  rintro r S' ⟨rfl, rfl⟩
  (repeat (refine BW.pl rfl rfl ?_))
  first | (refine BW.putr rfl rfl (by first | assumption | exact upH_eq | exact (upH_ne (by assumption)).trans (by assumption) | exact (upH_ne (Ne.symm (by assumption))).trans (by assumption)) rfl (by decide) ?_) | (refine BW.putx rfl (by first | assumption | exact upH_eq | exact (upH_ne (by assumption)).trans (by assumption) | exact (upH_ne (Ne.symm (by assumption))).trans (by assumption)) rfl (by decide) (by first | exact Or.inl ⟨rfl, by first | omega | decide | (constructor <;> first | omega | decide)⟩ | exact Or.inr (Or.inl ⟨rfl, by first | omega | decide | (constructor <;> first | omega | decide)⟩) | exact Or.inr (Or.inr (Or.inl ⟨rfl, by first | omega | decide | (constructor <;> first | omega | decide)⟩)) | exact Or.inr (Or.inr (Or.inr ⟨rfl, by first | omega | decide | (constructor <;> first | omega | decide)⟩))) ?_)
  exact BW.ret rfl rfl ⟨_, rfl, rfl, rfl⟩
theorem B_refInit (hn : H n = oOwn 11) (h1000 : 1000 ≤ n) {v : Int} (hv : inR v) : BMr (d + 3) gk_X11_init [aR n, aI v] (H, fi, fr, t) (fun r S' => r = none ∧ S' = (H, upI fi 78 n v, excR fr n, t)) := by
  refine BM.of rfl rfl rfl ?_
  (repeat (refine BW.pl rfl rfl ?_))
  refine BW.c5 rfl rfl (by first | exact Or.inl rfl | exact Or.inr (tagH (by first | assumption | exact upH_eq | exact (upH_ne (by assumption)).trans (by assumption) | exact (upH_ne (Ne.symm (by assumption))).trans (by assumption)) (by rfl) (by rfl))) (by first | exact Or.inl (by decide) | exact Or.inr ⟨_, rfl, by assumption⟩) rfl (B_excInit (d := d) hn (Or.inr rfl) h1000) ?_
  rintro r S' ⟨rfl, rfl⟩
  (repeat (refine BW.pl rfl rfl ?_))
  first | (refine BW.putr rfl rfl (by first | assumption | exact upH_eq | exact (upH_ne (by assumption)).trans (by assumption) | exact (upH_ne (Ne.symm (by assumption))).trans (by assumption)) rfl (by decide) ?_) | (refine BW.putx rfl (by first | assumption | exact upH_eq | exact (upH_ne (by assumption)).trans (by assumption) | exact (upH_ne (Ne.symm (by assumption))).trans (by assumption)) rfl (by decide) (by first | exact Or.inl ⟨rfl, by first | omega | decide | (constructor <;> first | omega | decide)⟩ | exact Or.inr (Or.inl ⟨rfl, by first | omega | decide | (constructor <;> first | omega | decide)⟩) | exact Or.inr (Or.inr (Or.inl ⟨rfl, by first | omega | decide | (constructor <;> first | omega | decide)⟩)) | exact Or.inr (Or.inr (Or.inr ⟨rfl, by first | omega | decide | (constructor <;> first | omega | decide)⟩))) ?_)
  exact BW.ret rfl rfl ⟨_, rfl, rfl, rfl⟩
/-- an exception of class c is thrown that tells v in its field F -/
def Thr9 (c F : Nat) (v : Int) (S : BS) (r : GO) (S' : BS) : Prop := ∃ q, r = .inr (c, some q) ∧ Free S.1 S.2.1 S.2.2.1 q ∧ S' = (upH S.1 q (oOwn c), upI S.2.1 F q v, excR S.2.2.1 q, S.2.2.2 + 19)
/-- it goes on, or throws -/
def Ret9 (S : BS) (r : GO) (S' : BS) : Prop := r = .inl none ∧ S' = S
theorem B_must {b : Int} (hb : b = 0 ∨ b = 1) (hn : H n = oOwn 10) (hv : inR (fi 75 n)) : BM (d + 4) gk_X3_must [aR n, aI b] (H, fi, fr, t) (fun r S' => if b = 1 then Ret9 (H, fi, fr, t) r S' else Thr9 5 42 (fi 75 n) (H, fi, fr, t) r S') := by
  refine BM.of rfl rfl rfl ?_
  (repeat (refine BW.pl rfl rfl ?_))
  refine BW.br rfl rfl (by first | omega | decide | (constructor <;> first | omega | decide)) (fun z => ?_) (fun z => ?_)
  · (repeat (refine BW.pl rfl rfl ?_))
    exact BW.ret rfl rfl (by rw [if_pos (by omega)]; exact ⟨rfl, rfl⟩)
  · refine BW.newO (L := 7) (c := 5) rfl rfl rfl rfl (fun q hq => ?_)
    have hq1 := hq.1
    have hnq : n ≠ q := fun w => by rw [w, hq.2.1] at hn; exact absurd hn (oNe rfl)
    (repeat (refine BW.pl rfl rfl ?_))
    (repeat (first | (refine BW.pl rfl rfl ?_) | (refine BW.geti rfl rfl (by first | assumption | exact upH_eq | exact (upH_ne (by assumption)).trans (by assumption) | exact (upH_ne (Ne.symm (by assumption))).trans (by assumption)) rfl rfl (by first | assumption | rfl | (simp only [upI, upR, Nat.reduceEqDiff, false_and, true_and, and_true, reduceIte]; first | rfl | assumption)) (fun _ => ?_)) | (refine BW.getr rfl rfl (by first | assumption | exact upH_eq | exact (upH_ne (by assumption)).trans (by assumption) | exact (upH_ne (Ne.symm (by assumption))).trans (by assumption)) rfl rfl (by first | assumption | rfl | (simp only [upI, upR, Nat.reduceEqDiff, false_and, true_and, and_true, reduceIte]; first | rfl | assumption)) ?_)))
    refine BW.c2 rfl rfl (by first | exact Or.inl rfl | exact Or.inr (tagH (by first | assumption | exact upH_eq | exact (upH_ne (by assumption)).trans (by assumption) | exact (upH_ne (Ne.symm (by assumption))).trans (by assumption)) (by rfl) (by rfl))) (by first | exact Or.inl (by decide) | exact Or.inr ⟨_, rfl, by assumption⟩) rfl (B_fltInit (d := d) upH_eq hq1 hv) ?_
    rintro r S' ⟨rfl, rfl⟩
    exact BW.thr rfl upH_eq (Or.inl rfl) rfl (by rw [if_neg (by omega)]; exact ⟨q, rfl, hq, rfl⟩)
theorem B_need {b v : Int} (hb : b = 0 ∨ b = 1) (hv : inR v) : BM (d + 4) gk_X1_need [aI b, aI v] (H, fi, fr, t) (fun r S' => if b = 1 then Ret9 (H, fi, fr, t) r S' else Thr9 11 78 v (H, fi, fr, t) r S') := by
  refine BM.of rfl rfl rfl ?_
  (repeat (refine BW.pl rfl rfl ?_))
  refine BW.br rfl rfl (by first | omega | decide | (constructor <;> first | omega | decide)) (fun z => ?_) (fun z => ?_)
  · (repeat (refine BW.pl rfl rfl ?_))
    exact BW.ret rfl rfl (by rw [if_pos (by omega)]; exact ⟨rfl, rfl⟩)
  · refine BW.newO (L := 7) (c := 11) rfl rfl rfl rfl (fun q hq => ?_)
    have hq1 := hq.1
    (repeat (refine BW.pl rfl rfl ?_))
    refine BW.c2 rfl rfl (by first | exact Or.inl rfl | exact Or.inr (tagH (by first | assumption | exact upH_eq | exact (upH_ne (by assumption)).trans (by assumption) | exact (upH_ne (Ne.symm (by assumption))).trans (by assumption)) (by rfl) (by rfl))) (by first | exact Or.inl (by decide) | exact Or.inr ⟨_, rfl, by assumption⟩) rfl (B_refInit (d := d) upH_eq hq1 hv) ?_
    rintro r S' ⟨rfl, rfl⟩
    exact BW.thr rfl upH_eq (Or.inr rfl) rfl (by rw [if_neg (by omega)]; exact ⟨q, rfl, hq, rfl⟩)
end EX
