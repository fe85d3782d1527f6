-- B
set_option maxRecDepth 100000
/-! THE READER: a sign that must be there -/
section RD
variable {d i a n : Nat} {b : Int} {M : GMeth} {ls : GL} {st : List GV} {H : Nat → Obj} {fi : Nat → Nat → Int} {fr : Nat → Nat → Option Nat} {t : Nat} {S : BS} {Q : GO → BS → Prop} {s l : List Int}
/-- a call of must whose throw is passed on -/
theorem BW.must {kind tag : Nat} {x : Int} (hC : M.2.2.1[i]? = some (60, a, b)) (hs : gsites[a]? = some (kind, gk_X3_must, tag, 2)) (htag : tag = 0 ∨ tag = 10) (hin : kind ≠ 4 ∧ kind ≠ 11) (hr : Nat.ble ((st.map gcat).sum) 8 = true) (h : RdAt S n s l) (hx : x = 0 ∨ x = 1) (hh : ghnd M.2.2.2 i = none)
    (k : x = 1 → BW (d + 4) M (i + 1) ls st S Q) (kx : ∀ q S', x = 0 → Thr9 5 42 ((s.length : Int) - l.length) S (.inr (5, some q)) S' → Q (.inr (5, some q)) S') : BW (d + 4) M i ls (.inl x :: .inr (.inr (some n)) :: st) S Q := by
  have h0 := h.at
  obtain ⟨H, fi, fr, t⟩ := S
  have hn : H n = oOwn 10 := h.1
  have h0 : fi 75 n = (s.length : Int) - l.length ∧ l.length ≤ s.length ∧ s.length < 10000 := h0
  refine BW.call (as := [aR n, aI x]) (rest := st) hC hs rfl rfl hr ?_ (Or.inl hin) (B_must (d := d) (t := t) (fi := fi) (fr := fr) hx hn (by omega)) ?_ ?_
  · rcases htag with z | z
    · exact Or.inl z
    · exact Or.inr ⟨n, rfl, by rw [hn, z]; exact ⟨rfl, rfl⟩⟩
  · intro r S' hq
    rcases hx with rfl | rfl
    · rw [if_neg (by decide)] at hq
      obtain ⟨q, e, -⟩ := hq
      cases e
    · rw [if_pos rfl] at hq
      obtain ⟨e, rfl⟩ := hq
      cases e
      exact k rfl
  · intro E q S' hq
    left
    refine ⟨hh, ?_⟩
    rcases hx with rfl | rfl
    · rw [if_neg (by decide)] at hq
      rw [h0.1] at hq
      obtain ⟨q1, e, hq1⟩ := hq
      cases e
      exact kx q1 S' rfl ⟨q1, rfl, hq1⟩
    · rw [if_pos rfl] at hq
      cases hq.1
theorem B_mustC {c : Int} (h : RdAt S n s l) (hc : 0 ≤ c ∧ c < 128) : BM (d + 6) gk_X3_must_2 [aR n, aI c] S (fun r S' => if lk l = c then r = .inl none ∧ S' = rdGo S n 1 else Thr9 5 42 ((s.length : Int) - l.length) S r S') := by
  have hR := h.R
  have h0 := h.at
  obtain ⟨H, fi, fr, t⟩ := S
  have hn : H n = oOwn 10 := h.1
  have h0 : fi 75 n = (s.length : Int) - l.length ∧ l.length ≤ s.length ∧ s.length < 10000 := h0
  refine BM.of rfl rfl rfl ?_
  (repeat (refine BW.pl rfl rfl ?_))
  refine BW.c1 rfl rfl (by first | exact Or.inl rfl | exact Or.inr (tagH (by first | assumption | exact upH_eq | exact (upH_ne (by assumption)).trans (by assumption) | exact (upH_ne (Ne.symm (by assumption))).trans (by assumption)) (by rfl) (by rfl))) (by first | exact Or.inl (by decide) | exact Or.inr ⟨_, rfl, by assumption⟩) rfl (B_look (d := d) h) ?_; rintro _ _ ⟨rfl, rfl⟩
  (repeat (refine BW.pl rfl rfl ?_))
  refine BW.br rfl rfl (by first | omega | decide | (constructor <;> first | omega | decide)) (fun z => ?_) (fun z => ?_)
  · (repeat (refine BW.pl rfl rfl ?_))
    refine BW.must (d := d + 1) rfl rfl (by decide) (by decide) rfl h (Or.inl rfl) rfl (fun w => absurd w (by decide)) (fun q S' _ hq => ?_)
    rw [if_neg z]; exact hq
  · (repeat (refine BW.pl rfl rfl ?_))
    refine BW.must (d := d + 1) rfl rfl (by decide) (by decide) rfl h (Or.inr rfl) rfl (fun _ => ?_) (fun q S' w _ => absurd w (by decide))
    (repeat (first | (refine BW.pl rfl rfl ?_) | (refine BW.geti rfl rfl (by first | assumption | exact upH_eq | exact (upH_ne (by assumption)).trans (by assumption) | exact (upH_ne (Ne.symm (by assumption))).trans (by assumption)) rfl rfl (by first | assumption | rfl | (simp only [upI, upR, Nat.reduceEqDiff, false_and, true_and, and_true, reduceIte]; first | rfl | assumption)) (fun _ => ?_)) | (refine BW.getr rfl rfl (by first | assumption | exact upH_eq | exact (upH_ne (by assumption)).trans (by assumption) | exact (upH_ne (Ne.symm (by assumption))).trans (by assumption)) rfl rfl (by first | assumption | rfl | (simp only [upI, upR, Nat.reduceEqDiff, false_and, true_and, and_true, reduceIte]; first | rfl | assumption)) ?_)))
    first | (refine BW.putr rfl rfl (by first | assumption | exact upH_eq | exact (upH_ne (by assumption)).trans (by assumption) | exact (upH_ne (Ne.symm (by assumption))).trans (by assumption)) rfl (by decide) ?_) | (refine BW.putx rfl (by first | assumption | exact upH_eq | exact (upH_ne (by assumption)).trans (by assumption) | exact (upH_ne (Ne.symm (by assumption))).trans (by assumption)) rfl (by decide) (by first | exact Or.inl ⟨rfl, by first | omega | decide | (constructor <;> first | omega | decide)⟩ | exact Or.inr (Or.inl ⟨rfl, by first | omega | decide | (constructor <;> first | omega | decide)⟩) | exact Or.inr (Or.inr (Or.inl ⟨rfl, by first | omega | decide | (constructor <;> first | omega | decide)⟩)) | exact Or.inr (Or.inr (Or.inr ⟨rfl, by first | omega | decide | (constructor <;> first | omega | decide)⟩))) ?_)
    exact BW.ret rfl rfl (by rw [if_pos z]; exact ⟨rfl, rfl⟩)
end RD
