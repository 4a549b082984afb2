section
/-! the law's calls at rest: tests of arguments, number, setNumber, load, put, make -/
section
variable {f0 f1 f2 f3 f4 f5 : Int32} {a1 a2 a3 a4 a5 a6 a7 a8 : Nat → Int32}
/-- a register that is taken -/
def th_reg (t r : Int32) : Prop := ∃ T R : Nat, T ≤ 2 ∧ R ≤ 3 ∧ t = nI T ∧ r = nI R
/-- a pair that it refuses -/
def th_bad (t r : Int32) : Prop := t < 0 ∨ 2 < t ∨ r < 0 ∨ 3 < r
theorem th_split (t r : Int32) : th_reg t r ∨ th_bad t r := by
  by_cases h1 : t < 0
  · exact Or.inr (Or.inl h1)
  by_cases h2 : (2 : Int32) < t
  · exact Or.inr (Or.inr (Or.inl h2))
  by_cases h3 : r < 0
  · exact Or.inr (Or.inr (Or.inr (Or.inl h3)))
  by_cases h4 : (3 : Int32) < r
  · exact Or.inr (Or.inr (Or.inr (Or.inr h4)))
  have e2 : t ≤ 2 := Decidable.of_not_not (fun z => h2 (Int32.not_le.mp z))
  have e4 : r ≤ 3 := Decidable.of_not_not (fun z => h4 (Int32.not_le.mp z))
  obtain ⟨T, hT, eT⟩ := nI_of2 (M := 2) (n := 2) (by decide) h1 e2
  obtain ⟨R, hR, eR⟩ := nI_of2 (M := 3) (n := 3) (by decide) h3 e4
  exact Or.inl ⟨T, R, hT, hR, eT, eR⟩
theorem th_01 {g : Int32} (h1 : ¬ g < 0) (h2 : g ≤ 1) : g = 0 ∨ g = 1 := by
  obtain ⟨j, hj, rfl⟩ := nI_of2 (M := 1) (n := 1) (by decide) h1 h2
  have e : j = 0 ∨ j = 1 := by omega
  rcases e with rfl | rfl
  · exact Or.inl rfl
  · exact Or.inr rfl
theorem th_ix (T R : Nat) : nI T * 4 + nI R = nI (T * 4 + R) := by
  show nI T * nI 4 + nI R = nI (T * 4 + R)
  rw [pk_mul, nI_add]
theorem th_bad0 {post : Int32 → Prop} {t r : Int32} (h : th_reg t r) (hp : post 0) : wpX_bad post (f0, f1, f2, f3, f4, f5, a1, a2, a3, a4, a5, a6, a7, a8) t r := by
  obtain ⟨T, R, hT, hR, rfl, rfl⟩ := h
  exact pk_lt T 0 (fun z => absurd z (by omega)) (fun _ => pk_lt 2 T (fun z => absurd z (by omega)) (fun _ => pk_lt R 0 (fun z => absurd z (by omega)) (fun _ => pk_le R 3 (fun _ => hp) (fun z => absurd z (by omega)))))
theorem th_bad1 {post : Int32 → Prop} {t r : Int32} (h : th_bad t r) (hp : post 1) : wpX_bad post (f0, f1, f2, f3, f4, f5, a1, a2, a3, a4, a5, a6, a7, a8) t r := by
  refine br_c (fun _ => hp) (fun h1 => br_c (fun _ => hp) (fun h2 => br_c (fun _ => hp) (fun h3 => br_c (fun h4 => ?_) (fun _ => hp))))
  rcases h with h | h | h | h
  · exact absurd h h1
  · exact absurd h h2
  · exact absurd h h3
  · exact absurd h4 (Int32.not_le.mpr h)
theorem th_bit0 {post : Int32 → Prop} {g : Int32} (h : g = 0 ∨ g = 1) (hp : post 0) : wpX_badBit post (f0, f1, f2, f3, f4, f5, a1, a2, a3, a4, a5, a6, a7, a8) g := by
  rcases h with rfl | rfl
  · exact br_f (by decide) (br_t (by decide) hp)
  · exact br_f (by decide) (br_t (by decide) hp)
theorem th_bit1 {post : Int32 → Prop} {g : Int32} (h : ¬ (g = 0 ∨ g = 1)) (hp : post 1) : wpX_badBit post (f0, f1, f2, f3, f4, f5, a1, a2, a3, a4, a5, a6, a7, a8) g :=
  br_c (fun _ => hp) (fun h1 => br_c (fun h2 => absurd (th_01 h1 h2) h) (fun _ => hp))
/-- at rest a thread has nothing to answer -/
theorem th_ans0 {post : St2 → Prop} {t : Int32} (h : post (f0, f1, 0, f3, f4, f5, a1, a2, a3, a4, a5, a6, a7, a8)) : wpX_answer post (f0, f1, 0, f3, f4, f5, a1, a2, a3, a4, a5, a6, a7, a8) t := br_t (by decide) h
theorem th_reach_m {post : St2 → Prop} {x : Int32} (hx : x = -1) (h : post (f0, f1, f2, f3, f4, f5, a1, a2, a3, a4, a5, a6, a7, a8)) : wpX_reach post (f0, f1, f2, f3, f4, f5, a1, a2, a3, a4, a5, a6, a7, a8) x := by
  subst hx
  exact br_t (by decide) h
/-- number: an empty register, or none: 0 -/
theorem th_number {post : Int32 → Prop} {t r : Int32} (ha : ∀ j, j < 12 → a6 j = -1) (hp : post 0) : wpX_number post (f0, f1, f2, f3, f4, f5, a1, a2, a3, a4, a5, a6, a7, a8) t r := by
  unfold wpX_number
  rcases th_split t r with h | h
  · refine th_bad0 h (br_t rfl ?_)
    obtain ⟨T, R, hT, hR, rfl, rfl⟩ := h
    rw [th_ix]
    exact ⟨pk_in (T * 4 + R) 12 (by omega), nm_r (e' := -1) (by rw [nI_clamp (by omega)]; exact ha _ (by omega)) (br_f (by decide) hp)⟩
  · exact th_bad1 h (br_f (by decide) hp)
theorem th_set0 {post : Int32 → St2 → Prop} {t r n : Int32} (h : th_reg t r) (ha : ∀ j, j < 12 → a6 j = -1) (hp : post (-3) (f0, f1, 0, f3, f4, f5, a1, a2, a3, a4, a5, a6, a7, a8)) : wpX_setNumber post (f0, f1, 0, f3, f4, f5, a1, a2, a3, a4, a5, a6, a7, a8) t r n := by
  unfold wpX_setNumber
  refine th_bad0 h (br_t rfl (th_ans0 ?_))
  obtain ⟨T, R, hT, hR, rfl, rfl⟩ := h
  dsimp only
  rw [th_ix]
  exact ⟨pk_in (T * 4 + R) 12 (by omega), nm_r (e' := -1) (by rw [nI_clamp (by omega)]; exact ha _ (by omega)) (br_f (by decide) hp)⟩
theorem th_set1 {post : Int32 → St2 → Prop} {t r n : Int32} (h : th_bad t r) (hp : post (-1) (f0, f1, f2, f3, f4, f5, a1, a2, a3, a4, a5, a6, a7, a8)) : wpX_setNumber post (f0, f1, f2, f3, f4, f5, a1, a2, a3, a4, a5, a6, a7, a8) t r n := by
  unfold wpX_setNumber
  exact th_bad1 h (br_f (by decide) hp)
theorem th_load0 {post : Int32 → St2 → Prop} {t r g : Int32} (h : th_reg t r) (hg : g = 0 ∨ g = 1) (ha : ∀ j, j < 12 → a6 j = -1) (hp : post (-3) (f0, f1, 0, f3, f4, f5, a1, a2, a3, a4, a5, a6, a7, a8)) : wpX_load post (f0, f1, 0, f3, f4, f5, a1, a2, a3, a4, a5, a6, a7, a8) t r r g := by
  unfold wpX_load
  refine th_bad0 h (br_t rfl (th_bad0 h (br_t rfl (th_bit0 hg (br_t rfl (th_ans0 ?_))))))
  obtain ⟨T, R, hT, hR, rfl, rfl⟩ := h
  dsimp only
  rw [th_ix]
  exact ⟨pk_in (T * 4 + R) 12 (by omega), nm_r (e' := -1) (by rw [nI_clamp (by omega)]; exact ha _ (by omega)) (br_f (by decide) hp)⟩
theorem th_load1 {post : Int32 → St2 → Prop} {t r g : Int32} (h : th_bad t r) (hp : post (-1) (f0, f1, f2, f3, f4, f5, a1, a2, a3, a4, a5, a6, a7, a8)) : wpX_load post (f0, f1, f2, f3, f4, f5, a1, a2, a3, a4, a5, a6, a7, a8) t r r g := by
  unfold wpX_load
  exact th_bad1 h (br_f (by decide) hp)
theorem th_load2 {post : Int32 → St2 → Prop} {t r g : Int32} (h : th_reg t r) (hg : ¬ (g = 0 ∨ g = 1)) (hp : post (-1) (f0, f1, f2, f3, f4, f5, a1, a2, a3, a4, a5, a6, a7, a8)) : wpX_load post (f0, f1, f2, f3, f4, f5, a1, a2, a3, a4, a5, a6, a7, a8) t r r g := by
  unfold wpX_load
  exact th_bad0 h (br_t rfl (th_bad0 h (br_t rfl (th_bit1 hg (br_f (by decide) hp)))))
/-- watching a write of nothing over nothing changes nothing -/
theorem th_watch {post : St2 → Prop} {T : Nat} {x y : Int32} (hT : T ≤ 2) (hx : x = -1) (hy : y = -1) (hp : post (f0, f1, f2, f3, f4, f5, a1, a2, a3, a4, a5, a6, a7, a8)) : wpX_watch post (f0, f1, f2, f3, f4, f5, a1, a2, a3, a4, a5, a6, a7, a8) (nI T) x y := by
  have h25 : wX_watch_25 post y f0 f1 f2 f3 f4 f5 a1 a2 a3 a4 a5 a6 a7 a8 := by
    unfold wX_watch_25
    exact th_reach_m hy hp
  unfold wpX_watch
  refine th_reach_m hx ?_
  exact ⟨pk_in T 3 (by omega), br_c (fun _ => h25) (fun _ => ⟨pk_in T 3 (by omega), br_c (fun _ => h25) (fun _ => hp)⟩)⟩
theorem th_put0 {post : Int32 → St2 → Prop} {t r g : Int32} (h : th_reg t r) (hg : g = 0 ∨ g = 1) (ha : ∀ j, j < 12 → a6 j = -1) (h0 : a7 0 = -1) (h1 : a7 1 = -1)
    (hp : ∀ b : Nat → Int32, b 0 = -1 → b 1 = -1 → post 0 (f0, f1, 0, f3, f4, f5, a1, a2, a3, a4, a5, a6, b, a8)) : wpX_put post (f0, f1, 0, f3, f4, f5, a1, a2, a3, a4, a5, a6, a7, a8) t g r := by
  unfold wpX_put
  refine th_bad0 h (br_t rfl (th_bit0 hg (br_t rfl (th_ans0 ?_))))
  obtain ⟨T, R, hT, hR, rfl, rfl⟩ := h
  dsimp only
  rw [th_ix]
  have hG : ∃ G : Nat, G < 2 ∧ g = nI G ∧ a7 G = -1 := by
    rcases hg with rfl | rfl
    · exact ⟨0, by omega, rfl, h0⟩
    · exact ⟨1, by omega, rfl, h1⟩
  obtain ⟨G, hG, rfl, hv⟩ := hG
  refine ⟨pk_in (T * 4 + R) 12 (by omega), nm_r (e' := -1) (by rw [nI_clamp (by omega)]; exact ha _ (by omega)) ⟨pk_in G 2 (by omega), ?_⟩⟩
  refine th_watch hT (by rw [nI_clamp (by omega)]; exact hv) rfl ?_
  refine ⟨pk_in G 2 (by omega), nm_e (hp _ ?_ ?_)⟩
  · rw [nI_clamp (by omega)]
    by_cases e : 0 = G
    · rw [← e]; exact pk_us
    · rw [pk_un e]; exact h0
  · rw [nI_clamp (by omega)]
    by_cases e : 1 = G
    · rw [← e]; exact pk_us
    · rw [pk_un e]; exact h1
theorem th_put1 {post : Int32 → St2 → Prop} {t r g : Int32} (h : th_bad t r) (hp : post (-1) (f0, f1, f2, f3, f4, f5, a1, a2, a3, a4, a5, a6, a7, a8)) : wpX_put post (f0, f1, f2, f3, f4, f5, a1, a2, a3, a4, a5, a6, a7, a8) t g r := by
  unfold wpX_put
  exact th_bad1 h (br_f (by decide) hp)
theorem th_put2 {post : Int32 → St2 → Prop} {t r g : Int32} (h : th_reg t r) (hg : ¬ (g = 0 ∨ g = 1)) (hp : post (-1) (f0, f1, f2, f3, f4, f5, a1, a2, a3, a4, a5, a6, a7, a8)) : wpX_put post (f0, f1, f2, f3, f4, f5, a1, a2, a3, a4, a5, a6, a7, a8) t g r := by
  unfold wpX_put
  exact th_bad0 h (br_t rfl (th_bit1 hg (br_f (by decide) hp)))
/-- make: cell 0 is free and is taken -/
theorem th_make0 {post : Int32 → St2 → Prop} {c : Nat} {T R : Nat} {n : Int32} (hc : 0 < c) (hc2 : c ≤ 16) (hT : T ≤ 2) (hR : R ≤ 3) (h0 : a1 0 = 0)
    (hp : post 1 (nI c, f1, 0, f3, f4, 1, upd a1 0 f3, upd a2 0 (-1), upd a3 0 (-1), upd a4 0 n, upd a5 0 1, upd a6 (T * 4 + R) 0, a7, a8)) : wpX_make post (nI c, f1, 0, f3, f4, 0, a1, a2, a3, a4, a5, a6, a7, a8) (nI T) (nI R) n := by
  have h37 : wX_make_37 post (nI T) (nI R) n 0 (nI c) f1 0 f3 f4 0 a1 a2 a3 a4 a5 a6 a7 a8 := by
    refine br_t (by decide) (nm_r (e' := 1) (by decide) ⟨pk_in 0 16 (by omega), nm_r (e' := upd a1 0 f3) rfl (br_t (by decide) ?_)⟩)
    unfold wX_make_90
    refine ⟨pk_in 0 16 (by omega), nm_r (e' := upd a2 0 (-1)) rfl ⟨pk_in 0 16 (by omega), nm_r (e' := upd a3 0 (-1)) rfl ⟨pk_in 0 16 (by omega), nm_r (e' := upd a4 0 n) rfl ⟨pk_in 0 16 (by omega), nm_r (e' := upd a5 0 1) rfl ?_⟩⟩⟩⟩
    rw [th_ix]
    exact ⟨pk_in (T * 4 + R) 12 (by omega), nm_r (e' := upd a6 (T * 4 + R) 0) (by rw [nI_clamp (by omega)]) hp⟩
  unfold wpX_make
  refine th_bad0 ⟨T, R, hT, hR, rfl, rfl⟩ (br_t rfl (th_ans0 ?_))
  dsimp only
  unfold wpX_freeCell
  refine ⟨1, ?_⟩
  refine pk_le c 0 (fun z => absurd z (by omega)) (fun _ => ⟨pk_in 0 16 (by omega), br_t h0 (br_t (by decide) h37)⟩)
theorem th_make1 {post : Int32 → St2 → Prop} {t r n : Int32} (h : th_bad t r) (hp : post (-1) (f0, f1, f2, f3, f4, f5, a1, a2, a3, a4, a5, a6, a7, a8)) : wpX_make post (f0, f1, f2, f3, f4, f5, a1, a2, a3, a4, a5, a6, a7, a8) t r n := by
  unfold wpX_make
  exact th_bad1 h (br_f (by decide) hp)
end
end
section
/-! the collector's round: drive, phase by phase; collectAll; live -/
section
variable {f0 f1 f2 f3 f4 f5 : Int32} {a1 a2 a3 a4 a5 a6 a7 a8 : Nat → Int32}
/-- the colours when the registers below i have been reached; the one at k holds cell 0 -/
def th_A (k i : Nat) (a : Nat → Int32) : Nat → Int32 := if k < i then upd a 0 3 else a
/-- register k holds cell 0 (k = 12: none does), the others nothing; cell 0 is white where it is held -/
def th_R (k : Nat) (a1 a6 : Nat → Int32) : Prop := (∀ j, j < 12 → j ≠ k → a6 j = -1) ∧ (k < 12 → a6 k = 0 ∧ a1 0 = 1)
theorem th_reachA {post : St2 → Prop} {k i : Nat} (hR : th_R k a1 a6) (hi : i < 12)
    (h : post (f0, f1, f2, 2, f4, f5, th_A k (i + 1) a1, a2, a3, a4, a5, a6, a7, a8)) : wpX_reach post (f0, f1, f2, 2, f4, f5, th_A k i a1, a2, a3, a4, a5, a6, a7, a8) (a6 i) := by
  by_cases e : i = k
  · subst e
    obtain ⟨e6, e1⟩ := hR.2 hi
    have z1 : th_A i i a1 = a1 := if_neg (by omega)
    have z2 : th_A i (i + 1) a1 = upd a1 0 3 := if_pos (by omega)
    rw [z2] at h
    rw [z1, e6]
    exact br_f (by decide) ⟨pk_in 0 16 (by omega), br_t e1 ⟨pk_in 0 16 (by omega), nm_r (e' := upd a1 0 3) rfl h⟩⟩
  · have z1 : th_A k (i + 1) a1 = th_A k i a1 := by
      unfold th_A
      by_cases z : k < i
      · rw [if_pos z, if_pos (show k < i + 1 by omega)]
      · rw [if_neg z, if_neg (show ¬ k < i + 1 by omega)]
    rw [z1] at h
    exact th_reach_m (hR.1 i hi e) h
theorem th_a61 {post : St2 → Prop} {k n T R : Nat} (hR : th_R k a1 a6) (hT : T ≤ 2) (hr : R ≤ 3)
    (h : wX_answer_61 post (nI T) n (nI (R + 1)) f0 f1 f2 2 f4 f5 (th_A k (T * 4 + R + 1) a1) a2 a3 a4 a5 a6 a7 a8) :
    wX_answer_61 post (nI T) (n + 1) (nI R) f0 f1 f2 2 f4 f5 (th_A k (T * 4 + R) a1) a2 a3 a4 a5 a6 a7 a8 := by
  refine pk_le 4 R (fun z => absurd z (by omega)) (fun _ => ?_)
  rw [th_ix]
  refine ⟨pk_in (T * 4 + R) 12 (by omega), ?_⟩
  rw [nI_clamp (by omega)]
  exact th_reachA hR (by omega) (nm_r (nI_1 R) h)
/-- the third signal: the thread's registers are reached -/
theorem th_ans3 {post : St2 → Prop} {k T : Nat} (hR : th_R k a1 a6) (hT : T ≤ 2) (hb : ¬ ((f1 >>> (nI T &&& 31)) &&& 1) = 1)
    (h : ∀ b : Nat → Int32, post (f0, f1 ||| ((1 : Int32) <<< (nI T &&& 31)), 3, 2, f4, f5, th_A k (T * 4 + 4) a1, a2, a3, a4, a5, a6, a7, b)) :
    wpX_answer post (f0, f1, 3, 2, f4, f5, th_A k (T * 4) a1, a2, a3, a4, a5, a6, a7, a8) (nI T) := by
  refine br_f (by decide) (br_f (by decide) (br_f hb (nm_e ⟨pk_in T 3 (by omega), fun b _ => br_t rfl ⟨5, ?_⟩⟩)))
  refine th_a61 (R := 0) hR hT (by omega) ?_
  refine th_a61 (R := 1) hR hT (by omega) ?_
  refine th_a61 (R := 2) hR hT (by omega) ?_
  refine th_a61 (R := 3) hR hT (by omega) ?_
  exact pk_le 4 4 (fun _ => h b) (fun z => absurd z (by omega))
/-- the first two signals -/
theorem th_ans12 {post : St2 → Prop} {t : Int32} (h1 : ¬ f2 < 1) (h2 : ¬ 3 < f2) (h3 : ¬ f2 = 3) (hb : ¬ ((f1 >>> (t &&& 31)) &&& 1) = 1) (ht : vp_in t 3)
    (h : ∀ b : Nat → Int32, post (f0, f1 ||| ((1 : Int32) <<< (t &&& 31)), f2, f3, f4, f5, a1, a2, a3, a4, a5, a6, a7, b)) :
    wpX_answer post (f0, f1, f2, f3, f4, f5, a1, a2, a3, a4, a5, a6, a7, a8) t :=
  br_f h1 (br_f h2 (br_f hb (nm_e ⟨ht, fun b _ => br_f h3 (h b)⟩)))
/-- tracing, sweeping: nothing to answer -/
theorem th_ans45 {post : St2 → Prop} {t : Int32} (h1 : ¬ f2 < 1) (h2 : 3 < f2) (h : post (f0, f1, f2, f3, f4, f5, a1, a2, a3, a4, a5, a6, a7, a8)) :
    wpX_answer post (f0, f1, f2, f3, f4, f5, a1, a2, a3, a4, a5, a6, a7, a8) t := br_f h1 (br_t h2 h)
theorem th_drive1 {post : St2 → Prop} (h : ∀ b : Nat → Int32, post (f0, 0, 2, f3, f4, f5, a1, a2, a3, a4, a5, a6, a7, b)) :
    wpX_drive post (f0, 0, 1, f3, f4, f5, a1, a2, a3, a4, a5, a6, a7, a8) := by
  unfold wpX_drive
  refine th_ans12 (by decide) (by decide) (by decide) (by decide) (pk_in 0 3 (by omega)) (fun b1 => ?_)
  refine th_ans12 (by decide) (by decide) (by decide) (by decide) (pk_in 1 3 (by omega)) (fun b2 => ?_)
  refine th_ans12 (by decide) (by decide) (by decide) (by decide) (pk_in 2 3 (by omega)) (fun b3 => ?_)
  dsimp only
  unfold wpX_step
  refine br_f (by decide) (br_f (by decide) ?_)
  unfold wpX_signalStep
  exact br_t (by decide) (nm_r (e' := 2) (by decide) (br_f (by decide) (h b3)))
theorem th_drive2 {post : St2 → Prop} (h : ∀ b : Nat → Int32, post (f0, 0, 3, f3, f4, f5, a1, a2, a3, a4, a5, a6, a7, b)) :
    wpX_drive post (f0, 0, 2, f3, f4, f5, a1, a2, a3, a4, a5, a6, a7, a8) := by
  unfold wpX_drive
  refine th_ans12 (by decide) (by decide) (by decide) (by decide) (pk_in 0 3 (by omega)) (fun b1 => ?_)
  refine th_ans12 (by decide) (by decide) (by decide) (by decide) (pk_in 1 3 (by omega)) (fun b2 => ?_)
  refine th_ans12 (by decide) (by decide) (by decide) (by decide) (pk_in 2 3 (by omega)) (fun b3 => ?_)
  dsimp only
  unfold wpX_step
  refine br_f (by decide) (br_f (by decide) ?_)
  unfold wpX_signalStep
  exact br_t (by decide) (nm_r (e' := 3) (by decide) (br_f (by decide) (h b3)))
theorem th_drive3 {post : St2 → Prop} {k : Nat} (hR : th_R k a1 a6) (g0 : a7 0 = -1) (g1 : a7 1 = -1)
    (h : ∀ b : Nat → Int32, post (f0, 0, 4, 2, f4, f5, th_A k 12 a1, a2, a3, a4, a5, a6, a7, b)) :
    wpX_drive post (f0, 0, 3, 2, f4, f5, a1, a2, a3, a4, a5, a6, a7, a8) := by
  have e0 : a1 = th_A k 0 a1 := (if_neg (by omega)).symm
  rw [e0]
  unfold wpX_drive
  refine th_ans3 (T := 0) hR (by omega) (by decide) (fun b1 => ?_)
  refine th_ans3 (T := 1) hR (by omega) (by decide) (fun b2 => ?_)
  refine th_ans3 (T := 2) hR (by omega) (by decide) (fun b3 => ?_)
  dsimp only
  unfold wpX_step
  refine br_f (by decide) (br_f (by decide) ?_)
  unfold wpX_signalStep
  exact br_t (by decide) (nm_r (e' := 4) (by decide) (br_t rfl (th_reach_m g0 (th_reach_m g1 (h b3)))))
/-- tracing: no cell is gray -/
theorem th_trace0 {post : St2 → Prop} {c : Nat} (hc : c ≤ 16) (hg : ∀ j, j < 16 → ¬ a1 j = 3) (h : post (nI c, f1, 5, f3, 0, f5, a1, a2, a3, a4, a5, a6, a7, a8)) :
    wpX_traceStep post (nI c, f1, f2, f3, f4, f5, a1, a2, a3, a4, a5, a6, a7, a8) := by
  unfold wpX_traceStep
  exact pk_loop (σ := Unit) (fun n i _ => wX_traceStep_4 post (nI c) f1 f2 f3 f4 f5 a1 a2 a3 a4 a5 a6 a7 a8 n (-1) (nI i)) (fun _ _ => True) c 0 () (by omega) trivial
    (fun n _ _ => pk_le c c (fun _ => br_f (by decide) h) (fun z => absurd z (by omega)))
    (fun n i _ hi _ hw => pk_le c i (fun z => absurd z (by omega)) (fun _ => ⟨pk_in i 16 (by omega), br_f (by rw [nI_clamp (by omega)]; exact hg i (by omega)) (nm_r (nI_1 i) (hw () trivial))⟩))
/-- tracing: cell 0 alone is gray and holds nothing -/
theorem th_trace1 {post : St2 → Prop} {c : Nat} (hc0 : 0 < c) (hc : c ≤ 16) (h0 : a1 0 = 3) (hg : ∀ j, 0 < j → j < 16 → ¬ a1 j = 3) (e2 : a2 0 = -1) (e3 : a3 0 = -1)
    (h : post (nI c, f1, f2, f3, f4, f5, upd a1 0 f3, a2, a3, a4, a5, a6, a7, a8)) :
    wpX_traceStep post (nI c, f1, f2, f3, f4, f5, a1, a2, a3, a4, a5, a6, a7, a8) := by
  unfold wpX_traceStep
  refine pk_loop (fun n i s => wX_traceStep_4 post (nI c) f1 f2 f3 f4 f5 a1 a2 a3 a4 a5 a6 a7 a8 n s (nI i)) (fun i s => (i = 0 ∧ s = -1) ∨ (0 < i ∧ s = 0)) c 0 (-1) (by omega) (Or.inl ⟨rfl, rfl⟩) ?_ ?_
  · intro n s hs
    rcases hs with ⟨z, _⟩ | ⟨_, rfl⟩
    · exact absurd z (by omega)
    · refine pk_le c c (fun _ => br_t (by decide) ⟨pk_in 0 16 (by omega), ?_⟩) (fun z => absurd z (by omega))
      refine th_reach_m e2 ⟨pk_in 0 16 (by omega), ?_⟩
      exact th_reach_m e3 ⟨pk_in 0 16 (by omega), nm_r (e' := upd a1 0 f3) rfl h⟩
  · intro n i s hi hs hw
    refine pk_le c i (fun z => absurd z (by omega)) (fun _ => ⟨pk_in i 16 (by omega), ?_⟩)
    rw [nI_clamp (by omega)]
    rcases hs with ⟨rfl, rfl⟩ | ⟨z, rfl⟩
    · exact br_t h0 (nm_r (nI_1 0) (hw _ (Or.inr ⟨by omega, rfl⟩)))
    · exact br_f (hg i z (by omega)) (nm_r (nI_1 i) (hw _ (Or.inr ⟨by omega, rfl⟩)))
theorem th_drive4 {post : St2 → Prop} (h : wpX_traceStep post (f0, f1, 4, f3, f4, f5, a1, a2, a3, a4, a5, a6, a7, a8)) :
    wpX_drive post (f0, f1, 4, f3, f4, f5, a1, a2, a3, a4, a5, a6, a7, a8) := by
  unfold wpX_drive
  refine th_ans45 (by decide) (by decide) (th_ans45 (by decide) (by decide) (th_ans45 (by decide) (by decide) ?_))
  dsimp only
  unfold wpX_step
  exact br_f (by decide) (br_t (by decide) (br_t rfl h))
/-- sweeping: the cell isn't white -/
theorem th_drive5 {post : St2 → Prop} {c j : Nat} (hc : c ≤ 16) (hj : j < c) (h1 : ¬ a1 j = 1)
    (h : j + 1 = c → post (nI c, f1, 0, 2, 0, f5, a1, a2, a3, a4, a5, a6, a7, a8)) (h' : j + 1 < c → post (nI c, f1, 5, 2, nI (j + 1), f5, a1, a2, a3, a4, a5, a6, a7, a8)) :
    wpX_drive post (nI c, f1, 5, 2, nI j, f5, a1, a2, a3, a4, a5, a6, a7, a8) := by
  unfold wpX_drive
  refine th_ans45 (by decide) (by decide) (th_ans45 (by decide) (by decide) (th_ans45 (by decide) (by decide) ?_))
  dsimp only
  unfold wpX_step
  refine br_f (by decide) (br_t (by decide) (br_f (by decide) ?_))
  unfold wpX_sweepStep
  refine ⟨pk_in j 16 (by omega), br_f (by rw [nI_clamp (by omega)]; exact h1) ?_⟩
  unfold wX_sweepStep_28
  exact nm_r (nI_1 j) (pk_eq (j + 1) c (fun z => h z) (fun z => h' (by omega)))
end
section
variable {f1 f4 f5 : Int32} {a1 a2 a3 a4 a5 a6 a7 a8 : Nat → Int32}
theorem th_sweep {post : St2 → Prop} {c : Nat} (hc : c ≤ 16) (h1 : ∀ j, j < 16 → ¬ a1 j = 1) (h : post (nI c, f1, 0, 2, 0, f5, a1, a2, a3, a4, a5, a6, a7, a8)) :
    ∀ d j i n : Nat, j + d + 1 = c → i + d < 80 → d + 1 < n → wX_collectAll_31 post n (nI i) (nI c) f1 5 2 (nI j) f5 a1 a2 a3 a4 a5 a6 a7 a8 := by
  intro d
  induction d with
  | zero =>
    intro j i n hj hi hn
    obtain ⟨m, rfl⟩ : ∃ m, n = m + 1 + 1 := ⟨n - 2, by omega⟩
    refine pk_le 80 i (fun z => absurd z (by omega)) (fun _ => br_f (by decide) ?_)
    refine th_drive5 hc (by omega) (h1 j (by omega)) (fun _ => nm_r (nI_1 i) ?_) (fun z => absurd z (by omega))
    exact br_c (fun _ => h) (fun _ => br_t rfl h)
  | succ d ih =>
    intro j i n hj hi hn
    obtain ⟨m, rfl⟩ : ∃ m, n = m + 1 := ⟨n - 1, by omega⟩
    refine pk_le 80 i (fun z => absurd z (by omega)) (fun _ => br_f (by decide) ?_)
    exact th_drive5 hc (by omega) (h1 j (by omega)) (fun z => absurd z (by omega)) (fun _ => nm_r (nI_1 i) (ih (j + 1) (i + 1) m (by omega) (by omega) (by omega)))
/-- from the trace that finds no gray cell to the end of the round -/
theorem th_tail {post : St2 → Prop} {c i n : Nat} (hc0 : 0 < c) (hc : c ≤ 16) (hi : i < 10) (hn : 20 ≤ n) (hg : ∀ j, j < 16 → ¬ a1 j = 3) (h1 : ∀ j, j < 16 → ¬ a1 j = 1) (h : post (nI c, f1, 0, 2, 0, f5, a1, a2, a3, a4, a5, a6, a7, a8)) :
    wX_collectAll_31 post n (nI i) (nI c) f1 4 2 f4 f5 a1 a2 a3 a4 a5 a6 a7 a8 := by
  obtain ⟨m, rfl⟩ : ∃ m, n = m + 1 := ⟨n - 1, by omega⟩
  refine pk_le 80 i (fun z => absurd z (by omega)) (fun _ => br_f (by decide) ?_)
  refine th_drive4 (th_trace0 hc hg (nm_r (nI_1 i) ?_))
  exact th_sweep hc h1 h (c - 1) 0 (i + 1) m (by omega) (by omega) (by omega)
/-- a whole round out of rest: afterwards cell 0 has the colour 2 where a register holds it, and is free else -/
theorem th_collect {post : St2 → Prop} {c k : Nat} (hc0 : 0 < c) (hc : c ≤ 16) (hR : th_R k a1 a6) (hk : ¬ k < 12 → a1 0 = 0) (hz : ∀ j, 0 < j → j < 16 → a1 j = 0)
    (hl : k < 12 → a2 0 = -1 ∧ a3 0 = -1) (g0 : a7 0 = -1) (g1 : a7 1 = -1)
    (h : ∀ b b' : Nat → Int32, (k < 12 → b 0 = 2) → (¬ k < 12 → b 0 = 0) → (∀ j, 0 < j → j < 16 → b j = 0) → post (nI c, 0, 0, 2, 0, f5, b, a2, a3, a4, a5, a6, a7, b')) :
    wpX_collectAll post (nI c, f1, 0, 1, f4, f5, a1, a2, a3, a4, a5, a6, a7, a8) := by
  unfold wpX_collectAll
  refine ⟨1, ?_⟩
  refine pk_le 80 0 (fun z => absurd z (by omega)) (fun _ => br_t rfl ?_)
  unfold wX_collectAll_25
  refine br_t rfl (nm_r (e' := 2) (by decide) ⟨40, ?_⟩)
  refine pk_le 80 0 (fun z => absurd z (by omega)) (fun _ => br_f (by decide) (th_drive1 (fun b1 => nm_r (nI_1 0) ?_)))
  refine pk_le 80 1 (fun z => absurd z (by omega)) (fun _ => br_f (by decide) (th_drive2 (fun b2 => nm_r (nI_1 1) ?_)))
  refine pk_le 80 2 (fun z => absurd z (by omega)) (fun _ => br_f (by decide) (th_drive3 hR g0 g1 (fun b3 => nm_r (nI_1 2) ?_)))
  by_cases e : k < 12
  · obtain ⟨e6, e1⟩ := hR.2 e
    obtain ⟨l0, l1⟩ := hl e
    rw [show th_A k 12 a1 = upd a1 0 3 from if_pos e]
    refine pk_le 80 3 (fun z => absurd z (by omega)) (fun _ => br_f (by decide) (th_drive4 (th_trace1 hc0 hc pk_us ?_ l0 l1 (nm_r (nI_1 3) ?_))))
    · intro j h0 hj
      rw [pk_un (by omega), hz j h0 hj]
      decide
    · have q : ∀ j, 0 < j → j < 16 → upd (upd a1 0 3) 0 2 j = 0 := by
        intro j h0 hj
        rw [pk_un (by omega), pk_un (by omega)]
        exact hz j h0 hj
      have q0 : upd (upd a1 0 3) 0 2 0 = 2 := pk_us
      refine th_tail (n := 36) hc0 hc (by omega) (by omega) ?_ ?_ (h _ b3 (fun _ => q0) (fun z => absurd e z) q)
      · intro j hj
        by_cases e0 : j = 0
        · rw [e0, q0]; decide
        · rw [q j (by omega) hj]; decide
      · intro j hj
        by_cases e0 : j = 0
        · rw [e0, q0]; decide
        · rw [q j (by omega) hj]; decide
  · rw [show th_A k 12 a1 = a1 from if_neg e]
    have q : ∀ j, j < 16 → a1 j = 0 := by
      intro j hj
      by_cases e0 : j = 0
      · rw [e0]; exact hk e
      · exact hz j (by omega) hj
    refine th_tail (n := 37) hc0 hc (by omega) (by omega) ?_ ?_ (h _ b3 (fun z => absurd z e) hk hz)
    · intro j hj
      rw [q j hj]; decide
    · intro j hj
      rw [q j hj]; decide
/-- live: how many cells are held: cell 0, or none -/
theorem th_live {post : Int32 → St2 → Prop} {c k : Nat} (m : Int32) (hc0 : 0 < c) (hc : c ≤ 16) (hR : th_R k a1 a6) (hk : ¬ k < 12 → a1 0 = 0) (hz : ∀ j, 0 < j → j < 16 → a1 j = 0)
    (hl : k < 12 → a2 0 = -1 ∧ a3 0 = -1) (g0 : a7 0 = -1) (g1 : a7 1 = -1) (hm : k < 12 → m = 1) (hm' : ¬ k < 12 → m = 0)
    (h : ∀ b b' : Nat → Int32, post m (nI c, 0, 0, 2, 0, f5, b, a2, a3, a4, a5, a6, a7, b')) :
    wpX_live post (nI c, f1, 0, 1, f4, f5, a1, a2, a3, a4, a5, a6, a7, a8) := by
  unfold wpX_live
  refine th_collect hc0 hc hR hk hz hl g0 g1 (fun b b' h1 h2 h3 => ?_)
  refine pk_loop (fun n i s => wX_live_8 post (nI c) 0 0 2 0 f5 b a2 a3 a4 a5 a6 a7 b' n s (nI i)) (fun i s => (i = 0 ∧ s = 0) ∨ (0 < i ∧ s = m)) c 0 0 (by omega) (Or.inl ⟨rfl, rfl⟩) ?_ ?_
  · intro n s hs
    rcases hs with ⟨z, _⟩ | ⟨_, rfl⟩
    · exact absurd z (by omega)
    · exact pk_le c c (fun _ => h b b') (fun z => absurd z (by omega))
  · intro n i s hi hs hw
    refine pk_le c i (fun z => absurd z (by omega)) (fun _ => ⟨pk_in i 16 (by omega), ?_⟩)
    rw [nI_clamp (by omega)]
    rcases hs with ⟨rfl, rfl⟩ | ⟨z, rfl⟩
    · by_cases e : k < 12
      · exact br_f (by rw [h1 e]; decide) (nm_r (e' := 1) (by decide) (nm_r (nI_1 0) (hw _ (Or.inr ⟨by omega, (hm e).symm⟩))))
      · exact br_t (h2 e) (nm_r (nI_1 0) (hw _ (Or.inr ⟨by omega, (hm' e).symm⟩)))
    · exact br_t (h3 i z (by omega)) (nm_r (nI_1 i) (hw _ (Or.inr ⟨by omega, rfl⟩)))
end
end
section
/-! the constructor, the law's last test, the law -/
section
theorem th_i96 {post : St2 → Prop} {mc ms kc ks c : Nat} (h4 : 4 ≤ c) (h16 : c ≤ 16)
    (h : ∀ (c : Nat) (a6 : Nat → Int32), 4 ≤ c → c ≤ 16 → (∀ j, j < 12 → a6 j = -1) → post (nI c, 0, 0, 1, 0, 0, (fun _ => 0), (fun _ => 0), (fun _ => 0), (fun _ => 0), (fun _ => 0), a6, upd (upd (fun _ => 0) 0 (-1)) 1 (-1), (fun _ => 0))) :
    wX_init_84 post mc ms (nI c) kc ks 0 0 0 0 0 0 (fun _ => 0) (fun _ => 0) (fun _ => 0) (fun _ => 0) (fun _ => 0) (fun _ => 0) (fun _ => 0) (fun _ => 0) := by
  unfold wX_init_84
  refine pk_loop (fun n i s => wX_init_96 post mc ms kc ks (nI c) 0 0 1 0 0 n (nI i) (fun _ => 0) (fun _ => 0) (fun _ => 0) (fun _ => 0) (fun _ => 0) s (fun _ => 0) (fun _ => 0)) (fun i s => ∀ j, j < i → s j = -1) 12 0 (fun _ => 0) (by omega) (fun j hj => absurd hj (by omega)) ?_ ?_
  · intro n s hs
    exact pk_le 12 12 (fun _ => nm_e (nm_e (h c s h4 h16 hs))) (fun z => absurd z (by omega))
  · intro n i s hi hs hw
    refine pk_le 12 i (fun z => absurd z (by omega)) (fun _ => ⟨pk_in i 12 hi, nm_r (e' := upd s i (-1)) (by rw [nI_clamp (by omega)]) (nm_r (nI_1 i) (hw _ (fun j hj => ?_)))⟩)
    by_cases e : j = i
    · rw [e]; exact pk_us
    · rw [pk_un e]; exact hs j (by omega)
theorem th_init {post : St2 → Prop} {p0 : Int32}
    (h : ∀ (c : Nat) (a6 : Nat → Int32), 4 ≤ c → c ≤ 16 → (∀ j, j < 12 → a6 j = -1) → post (nI c, 0, 0, 1, 0, 0, (fun _ => 0), (fun _ => 0), (fun _ => 0), (fun _ => 0), (fun _ => 0), a6, upd (upd (fun _ => 0) 0 (-1)) 1 (-1), (fun _ => 0))) :
    wpX_init post 8 97 (0, 0, 0, 0, 0, 0) p0 := by
  have H : ∀ x : Int32, 4 ≤ x → wX_init_75 post 8 97 x 8 97 0 0 0 0 0 0 (fun _ => 0) (fun _ => 0) (fun _ => 0) (fun _ => 0) (fun _ => 0) (fun _ => 0) (fun _ => 0) (fun _ => 0) := by
    intro x hx
    have h0 : ¬ x < 0 := by
      rw [Int32.le_iff_toInt_le] at hx
      rw [Int32.lt_iff_toInt_lt]
      have e4 : (4 : Int32).toInt = 4 := by decide
      have e0 : (0 : Int32).toInt = 0 := by decide
      omega
    obtain ⟨j, hj, rfl⟩ := nI_of h0
    have hx' : nI 4 ≤ nI j := hx
    rw [nI_leI (by omega) hj] at hx'
    exact pk_le j 16 (fun z => th_i96 hx' z h) (fun _ => th_i96 (c := 16) (by omega) (by omega) h)
  unfold wpX_init
  refine ⟨by omega, by omega, by omega, by omega, by omega, by omega, by omega, by omega, by omega, by omega, by omega, by omega, by omega, by omega, by omega, by omega, ?_⟩
  exact br_c (fun z => H p0 z) (fun _ => H 4 (by decide))
theorem th_end0 {post : Int32 → St0 → Prop} {mc ms kc ks : Nat} {x4 : Int32} (hp : post 1 ()) (h : x4 = 0 ∨ x4 = 1) : wL_lawOf_92 post mc ms x4 0 (-3) (-3) 0 1 1 1 kc ks := by
  have H : wL_lawOf_110 post mc ms 0 (-3) (-3) 0 1 1 1 1 kc ks :=
    br_t rfl (br_f (by decide) (br_t rfl (br_f (by decide) (br_f (by decide) (br_t rfl (br_f (by decide) (br_f (by decide) (br_t rfl (br_f (by decide) (br_t rfl (br_f (by decide) (br_t rfl hp))))))))))))
  rcases h with rfl | rfl
  · exact br_t rfl H
  · exact br_f (by decide) (br_t rfl H)
theorem th_end2 {post : Int32 → St0 → Prop} {mc ms kc ks : Nat} {x4 : Int32} (hp : post 1 ()) (h : ¬ (x4 = 0 ∨ x4 = 1)) : wL_lawOf_92 post mc ms x4 0 (-3) (-1) (-1) 1 1 1 kc ks := by
  have H : wL_lawOf_110 post mc ms 0 (-3) (-1) (-1) 1 1 1 0 kc ks :=
    br_t rfl (br_f (by decide) (br_t rfl (br_f (by decide) (br_t rfl (br_t rfl (br_f (by decide) (br_t rfl (br_t rfl (br_f (by decide) (br_t rfl (br_f (by decide) (br_t rfl hp))))))))))))
  exact br_f (fun z => h (Or.inl z)) (br_f (fun z => h (Or.inr z)) H)
theorem th_end1 {post : Int32 → St0 → Prop} {mc ms kc ks : Nat} {x4 : Int32} (hp : post 1 ()) : wL_lawOf_91 post mc ms x4 0 (-1) (-1) (-1) (-1) 0 kc ks := by
  have H : ∀ z0 : Int32, wL_lawOf_110 post mc ms 0 (-1) (-1) (-1) (-1) 0 0 z0 kc ks := fun z0 =>
    br_t rfl (br_t rfl (br_t rfl (br_t rfl (br_t rfl (br_t rfl (br_t rfl (br_t rfl (br_t rfl (br_t rfl (br_t rfl hp))))))))))
  unfold wL_lawOf_91
  exact br_c (fun _ => H 1) (fun _ => br_c (fun _ => H 1) (fun _ => H 0))
theorem th_law {post : Int32 → St0 → Prop} (hp : post 1 ()) (p0 p1 p2 p3 p4 : Int32) : wpL_lawOf post 74 1184 () p0 p1 p2 p3 p4 := by
  unfold wpL_lawOf
  refine ⟨by omega, by omega, 8, 97, by omega, by omega, th_init (fun c a6 hc hc2 ha => ?_)⟩
  refine th_number ha ?_
  rcases th_split p1 p2 with hR | hB
  · obtain ⟨T, R, hT, hr, rfl, rfl⟩ := hR
    have hR : th_reg (nI T) (nI R) := ⟨T, R, hT, hr, rfl, rfl⟩
    have hL : th_R (T * 4 + R) (upd (fun _ => 0) 0 1) (upd a6 (T * 4 + R) 0) := ⟨fun j hj hn => by rw [pk_un hn]; exact ha j hj, fun _ => ⟨pk_us, pk_us⟩⟩
    have hz : ∀ j, 0 < j → j < 16 → upd (fun _ => (0 : Int32)) 0 1 j = 0 := fun j h0 _ => pk_un (by omega)
    refine th_set0 hR ha ?_
    by_cases hG : p4 = 0 ∨ p4 = 1
    · refine th_load0 hR hG ha ?_
      refine th_put0 hR hG ha rfl rfl (fun b g0 g1 => ?_)
      refine th_make0 (by omega) hc2 hT hr rfl ?_
      refine th_live (k := T * 4 + R) 1 (by omega) hc2 hL (fun z => absurd z (by omega)) hz (fun _ => ⟨pk_us, pk_us⟩) g0 g1 (fun _ => rfl) (fun z => absurd z (by omega)) (fun b b' => ?_)
      exact pk_lt T 0 (fun z => absurd z (by omega)) (fun _ => pk_lt 2 T (fun z => absurd z (by omega)) (fun _ => pk_lt R 0 (fun z => absurd z (by omega)) (fun _ => pk_lt 3 R (fun z => absurd z (by omega)) (fun _ => th_end0 hp hG))))
    · refine th_load2 hR hG ?_
      refine th_put2 hR hG ?_
      refine th_make0 (by omega) hc2 hT hr rfl ?_
      refine th_live (k := T * 4 + R) 1 (by omega) hc2 hL (fun z => absurd z (by omega)) hz (fun _ => ⟨pk_us, pk_us⟩) rfl rfl (fun _ => rfl) (fun z => absurd z (by omega)) (fun b b' => ?_)
      exact pk_lt T 0 (fun z => absurd z (by omega)) (fun _ => pk_lt 2 T (fun z => absurd z (by omega)) (fun _ => pk_lt R 0 (fun z => absurd z (by omega)) (fun _ => pk_lt 3 R (fun z => absurd z (by omega)) (fun _ => th_end2 hp hG))))
  · refine th_set1 hB (th_load1 hB (th_put1 hB (th_make1 hB ?_)))
    have hL : th_R 12 (fun _ => 0) a6 := ⟨fun j hj _ => ha j hj, fun z => absurd z (by omega)⟩
    refine th_live (k := 12) 0 (by omega) hc2 hL (fun _ => rfl) (fun _ _ _ => rfl) (fun z => absurd z (by omega)) rfl rfl (fun z => absurd z (by omega)) (fun _ => rfl) (fun b b' => ?_)
    refine br_c (fun _ => th_end1 hp) (fun h1 => br_c (fun _ => th_end1 hp) (fun h2 => br_c (fun _ => th_end1 hp) (fun h3 => br_c (fun _ => th_end1 hp) (fun h4 => ?_))))
    rcases hB with h | h | h | h
    · exact absurd h h1
    · exact absurd h h2
    · exact absurd h h3
    · exact absurd h h4
theorem th_cell {post : Int32 → Prop} {xs : Nat → Int32} {L : Nat} (hL : L ≤ 5) (j : Nat) (hj : j < 5) (h : ∀ x, post x) : wpL_cellAt post L xs () (nI j) :=
  pk_le L j (fun _ => h _) (fun z => ⟨pk_in j L z, h _⟩)
theorem i_vc (xs : Nat → Int32) (L : Nat) (hL : L ≤ 5) : wpL_law (fun r => r = 1) L xs := by
  unfold wpL_law
  refine th_cell hL 0 (by omega) (fun r1 => ?_)
  refine th_cell hL 1 (by omega) (fun r2 => ?_)
  refine th_cell hL 2 (by omega) (fun r3 => ?_)
  refine th_cell hL 3 (by omega) (fun r4 => ?_)
  refine th_cell hL 4 (by omega) (fun r5 => ?_)
  exact ⟨74, 1184, by omega, by omega, th_law rfl r1 r2 r3 r4 r5⟩
end
end
