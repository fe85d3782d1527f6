set_option maxRecDepth 100000
/-! G's constants, ranges, and states that are well formed -/
/-- the constants' own numbers in G: see gen/ggen.py (STRK, STATR) -/
def kstr : List (List Int) := [[], [97, 105, 99, 100, 106, 108, 112, 61, 110, 104, 72, 117, 101, 113, 78, 118, 62, 60, 111, 79, 109, 116, 107, 114, 119, 58, 98, 84, 115, 122, 103, 71, 123], [103, 71, 123, 58, 98, 84, 113, 78], [98, 84, 113, 78], [], [32], [108, 111, 79, 109, 116], [32]]
def kcls (n : Nat) : Nat := if n < 256 then 23 else if n < 264 then 13 else if n < 300 then 0 else if n < 308 then 101 else if n = 330 then 104 else if n = 331 ∨ n = 332 then 101 else if n = 333 then 108 else 0
def kfi (F n : Nat) : Int := if F = 134 ∧ n < 256 then (n : Int) - 128 else 0
def kfr (F n : Nat) : Option Nat := if F = 91 ∧ 256 ≤ n ∧ n < 264 then some (n + 44) else none
def klen (n : Nat) : Nat := if 300 ≤ n ∧ n < 308 then (kstr.getD (n - 300) []).length else if n = 331 ∨ n = 332 then 100 else if n = 333 then 256 else 0
def kai (n j : Nat) : Int := if 300 ≤ n ∧ n < 308 then (kstr.getD (n - 300) []).getD j 0 else if n = 331 then 48 + ((j / 10 % 10 : Nat) : Int) else if n = 332 then 48 + ((j % 10 : Nat) : Int) else 0
def kar (n j : Nat) : Option Nat := if n = 333 then some j else none
/-- the constants in a state of G -/
def GKG (g : GH) : Prop := ∀ n, n < 1000 → gcls g n = kcls n ∧ glen g n = klen n ∧ (∀ F, gkf F = true → gfi g F n = kfi F n ∧ gfr g F n = kfr F n) ∧ (∀ j, gai g n j = kai n j) ∧ ∀ j, gar g n j = kar n j
def GInR (g : GH) : Prop := (∀ F n, inR (gfi g F n)) ∧ (∀ n j, inL (gai g n j)) ∧ (∀ n j, gcls g n ≠ 102 → inR (gai g n j)) ∧ (∀ n, glen g n ≤ 65536) ∧ ∀ n j, gcls g n = 101 → -128 ≤ gai g n j ∧ gai g n j < 128

def GWf (g : GH) : Prop := GKG g ∧ GInR g ∧ 1000 ≤ gsz g ∧ (∀ n, gsz g ≤ n → gcls g n = 0 ∧ ∀ F, gfi g F n = 0 ∧ gfr g F n = none) ∧ ∀ n, glen g n < 65536
section GWf
variable {g : GH} {F n j c L s : Nat} {x : Int} {r : Option Nat}
theorem GWf.lt (h : GWf g) (hc : gcls g n ≠ 0) : n < gsz g := by
  rcases Nat.lt_or_ge n (gsz g) with h1 | h1
  · exact h1
  · exact absurd (h.2.2.2.1 n h1).1 hc
theorem GWf.fi (h : GWf g) (hn : 1000 ≤ n) (hc : gcls g n ≠ 0) (hx : inR x) : GWf (gsfi g F n x) := by
  obtain ⟨h1, ⟨h2, h3, h4, h5, h6⟩, h7, h8, h9⟩ := id h
  have hl := h.lt hc
  refine ⟨fun m hm => ?_, ⟨fun f m => ?_, h3, h4, h5, h6⟩, h7, fun m hm => ⟨(h8 m hm).1, fun f => ⟨?_, ((h8 m hm).2 f).2⟩⟩, h9⟩
  · obtain ⟨a1, a2, a3, a4, a5⟩ := h1 m hm
    refine ⟨a1, a2, fun f hf => ⟨?_, (a3 f hf).2⟩, a4, a5⟩
    show (if f = F ∧ m = n then x else gfi g f m) = _
    rw [if_neg (fun z => by have := z.2; omega)]; exact (a3 f hf).1
  · show inR (if f = F ∧ m = n then x else gfi g f m)
    by_cases z : f = F ∧ m = n
    · rw [if_pos z]; exact hx
    · rw [if_neg z]; exact h2 f m
  · show (if f = F ∧ m = n then x else gfi g f m) = _
    have hm : gsz g ≤ m := hm
    rw [if_neg (fun z => by have := z.2; omega)]; exact ((h8 m hm).2 f).1
theorem GWf.fr (h : GWf g) (hn : 1000 ≤ n) (hc : gcls g n ≠ 0) : GWf (gsfr g F n r) := by
  obtain ⟨h1, h2, h7, h8, h9⟩ := id h
  have hl := h.lt hc
  refine ⟨fun m hm => ?_, h2, h7, fun m hm => ⟨(h8 m hm).1, fun f => ⟨((h8 m hm).2 f).1, ?_⟩⟩, h9⟩
  · obtain ⟨a1, a2, a3, a4, a5⟩ := h1 m hm
    refine ⟨a1, a2, fun f hf => ⟨(a3 f hf).1, ?_⟩, a4, a5⟩
    show (if f = F ∧ m = n then r else gfr g f m) = _
    rw [if_neg (fun z => by have := z.2; omega)]; exact (a3 f hf).2
  · show (if f = F ∧ m = n then r else gfr g f m) = _
    have hm : gsz g ≤ m := hm
    rw [if_neg (fun z => by have := z.2; omega)]; exact ((h8 m hm).2 f).2
theorem GWf.ai (h : GWf g) (hn : 1000 ≤ n) (hx : inL x) (h4' : gcls g n ≠ 102 → inR x) (h6' : gcls g n = 101 → -128 ≤ x ∧ x < 128) : GWf (gsai g n j x) := by
  obtain ⟨h1, ⟨h2, h3, h4, h5, h6⟩, h7, h8, h9⟩ := id h
  refine ⟨fun m hm => ?_, ⟨h2, fun m k => ?_, fun m k hk => ?_, h5, fun m k hk => ?_⟩, h7, h8, h9⟩
  · obtain ⟨a1, a2, a3, a4, a5⟩ := h1 m hm
    refine ⟨a1, a2, a3, fun k => ?_, a5⟩
    show (if m = n ∧ k = j then x else gai g m k) = _
    rw [if_neg (fun z => by have := z.1; omega)]; exact a4 k
  · show inL (if m = n ∧ k = j then x else gai g m k)
    by_cases z : m = n ∧ k = j
    · rw [if_pos z]; exact hx
    · rw [if_neg z]; exact h3 m k
  · show inR (if m = n ∧ k = j then x else gai g m k)
    by_cases z : m = n ∧ k = j
    · rw [if_pos z]; exact h4' (z.1 ▸ hk)
    · rw [if_neg z]; exact h4 m k hk
  · show _ ≤ (if m = n ∧ k = j then x else gai g m k) ∧ (if m = n ∧ k = j then x else gai g m k) < _
    by_cases z : m = n ∧ k = j
    · rw [if_pos z]; exact h6' (z.1 ▸ hk)
    · rw [if_neg z]; exact h6 m k hk
theorem GWf.ar (h : GWf g) (hn : 1000 ≤ n) : GWf (gsar g n j r) := by
  obtain ⟨h1, h2, h7, h8, h9⟩ := id h
  refine ⟨fun m hm => ?_, h2, h7, h8, h9⟩
  obtain ⟨a1, a2, a3, a4, a5⟩ := h1 m hm
  refine ⟨a1, a2, a3, a4, fun k => ?_⟩
  show (if m = n ∧ k = j then r else gar g m k) = _
  rw [if_neg (fun z => by have := z.1; omega)]; exact a5 k
theorem GWf.new (h : GWf g) (hL : L < 65536) : GWf (gnew g c L s) := by
  obtain ⟨h1, ⟨h2, h3, h4, h5, h6⟩, h7, h8, h9⟩ := id h
  refine ⟨fun m hm => ?_, ⟨fun f m => ?_, fun m k => ?_, fun m k hk => ?_, fun m => ?_, fun m k hk => ?_⟩, ?_, fun m hm => ?_, fun m => ?_⟩
  · have e : m ≠ gsz g := by omega
    obtain ⟨a1, a2, a3, a4, a5⟩ := h1 m hm
    exact ⟨(if_neg e).trans a1, (if_neg e).trans a2, fun f hf => ⟨(if_neg e).trans (a3 f hf).1, (if_neg e).trans (a3 f hf).2⟩, fun k => (if_neg e).trans (a4 k), fun k => (if_neg e).trans (a5 k)⟩
  · show inR (if m = gsz g then 0 else gfi g f m)
    by_cases z : m = gsz g
    · rw [if_pos z]; decide
    · rw [if_neg z]; exact h2 f m
  · show inL (if m = gsz g then 0 else gai g m k)
    by_cases z : m = gsz g
    · rw [if_pos z]; decide
    · rw [if_neg z]; exact h3 m k
  · show inR (if m = gsz g then 0 else gai g m k)
    have hk : (if m = gsz g then c else gcls g m) ≠ 102 := hk
    by_cases z : m = gsz g
    · rw [if_pos z]; decide
    · rw [if_neg z] at hk ⊢; exact h4 m k hk
  · show (if m = gsz g then L else glen g m) ≤ _
    by_cases z : m = gsz g
    · rw [if_pos z]; exact Nat.le_of_lt hL
    · rw [if_neg z]; exact h5 m
  · have hk : (if m = gsz g then c else gcls g m) = 101 := hk
    show _ ≤ (if m = gsz g then 0 else gai g m k) ∧ (if m = gsz g then 0 else gai g m k) < _
    by_cases z : m = gsz g
    · rw [if_pos z]; decide
    · rw [if_neg z] at hk ⊢; exact h6 m k hk
  · show 1000 ≤ gsz g + 1; omega
  · have hm : gsz g + 1 ≤ m := hm
    have e : m ≠ gsz g := by omega
    exact ⟨(if_neg e).trans (h8 m (by omega)).1, fun f => ⟨(if_neg e).trans ((h8 m (by omega)).2 f).1, (if_neg e).trans ((h8 m (by omega)).2 f).2⟩⟩
  · show (if m = gsz g then L else glen g m) < _
    by_cases z : m = gsz g
    · rw [if_pos z]; exact hL
    · rw [if_neg z]; exact h9 m
end GWf
