/-! THE RAW HEAP'S RELATION: every pure cell lies in the machine's heap, field by field -/
set_option maxRecDepth 100000
def RL1 (G : Gx) : Lv := fun h mp U H =>
  (400 ≤ h.1 ∧ h.2.1 ≤ LIM ∧ gB G ≤ H.size ∧ H.size ≤ gB G + h.2.1 ∧ totS H ≤ gT G + h.2.1) ∧
  (∀ i, i ≠ 0 → i < 400 → mp i = gC G i) ∧
  (∀ i j, i ≠ 0 → j ≠ 0 → i < h.1 → j < h.1 → mp i = mp j → i = j) ∧
  (∀ i, i ≠ 0 → i < h.1 → mp i < H.size ∨ gB G + LIM < mp i) ∧
  (∀ i, tg h i ≠ 0 → i ≠ 0 ∧ i < h.1 ∧ (tg h i < 500 → gB G ≤ mp i) ∧ AtC G mp (h.2.2 i) (mp i) U H) ∧
  (∀ i, i < h.1 → ∀ k, (h.2.2 i).2.2.2.1 k < h.1)
theorem lvA_RL1 (G : Gx) : LvA G (RL1 G) plR := by
  refine ⟨?_, ?_, ?_, ?_, ?_, ?_, ?_, ?_, ?_⟩
  · rintro h mp u U H hvm ⟨h1, h2, h3, h4, h5, h6⟩
    exact ⟨h1, h2, h3, h4, fun i hi => ⟨(h5 i hi).1, (h5 i hi).2.1, (h5 i hi).2.2.1, (h5 i hi).2.2.2.moved hvm⟩, h6⟩
  · rintro h mp U H ⟨⟨a1, a2, a3, a4, a5⟩, -⟩
    exact ⟨a4, a5, a3, by omega, a2⟩
  · rintro h mp U H ⟨-, -, -, -, h5, -⟩ i hi
    obtain ⟨q1, q2, q3, cell, c1, c2, c3, c4, c5, c6⟩ := h5 i hi
    exact ⟨q1, q2, q3, cell, c1, c3, fun hk => (c5 hk).1⟩
  · rintro h mp U H ⟨-, -, -, -, -, h6⟩
    exact h6
  · rintro h mp U H ⟨-, -, -, -, h5, -⟩ i hp
    have h0 : tg h i ≠ 0 := fun e => by rw [e] at hp; exact absurd hp (by decide)
    exact ⟨h0, (h5 i h0).2.2.2⟩
  · rintro h mp U H ⟨-, -, h3, -⟩
    exact h3
  · rintro h mp U H ⟨⟨a1, a2, a3, a4, a5⟩, h2, h3, h4, h5, h6⟩ i c H1 hp h500 hc1 hc2 hr hz ht hq hA
    have h0 : tg h i ≠ 0 := fun e => by rw [e] at hp; exact absurd hp (by decide)
    obtain ⟨q1, q2, q3, -⟩ := h5 i h0
    refine ⟨⟨a1, a2, by rw [hz]; exact a3, by rw [hz]; exact a4, by rw [ht]; exact a5⟩, h2, h3, fun j hj hl => by rw [hz]; exact h4 j hj hl, fun j hj => ?_, fun j hj k => ?_⟩
    · by_cases e : j = i
      · subst e
        have e2 : (hset h j c).2.2 j = c := if_pos rfl
        refine ⟨q1, q2, fun hk => q3 h500, ?_⟩
        rw [e2]; exact hA
      · have e2 : (hset h i c).2.2 j = h.2.2 j := if_neg e
        have e3 : tg (hset h i c) j = tg h j := by show ((hset h i c).2.2 j).1 = _; rw [e2]
        rw [e3] at hj
        obtain ⟨r1, r2, r3, r4⟩ := h5 j hj
        refine ⟨r1, r2, fun hk => r3 (e3 ▸ hk), ?_⟩
        rw [e2]
        exact r4.kept (hq _ fun e4 => e (h3 j i r1 q1 r2 q2 e4))
    · show (if j = i then c else h.2.2 j).2.2.2.1 k < h.1
      split
      · exact hr k
      · exact h6 j hj k
  · rintro h mp U H ⟨⟨a1, a2, a3, a4, a5⟩, h2, h3, h4, h5, h6⟩ n c H1 hp h500 hc hlim hz ht hq hA
    have hx : Xt h.1 mp (fun x => if x = h.1 then H.size else mp x) := fun i hi => if_neg (by omega)
    have hxr : ∀ (d : PC), (∀ k, d.2.2.2.1 k < h.1) → ∀ k, d.2.2.2.1 k ≠ 0 → (fun x => if x = h.1 then H.size else mp x) (d.2.2.2.1 k) = mp (d.2.2.2.1 k) := fun d hd k _ => hx _ (hd k)
    refine ⟨fun x => if x = h.1 then H.size else mp x, hx, if_pos rfl, ⟨by show 400 ≤ h.1 + 1; omega, hlim, by omega, by show H1.size ≤ gB G + (h.2.1 + (n + 1)); omega, by show totS H1 ≤ gT G + (h.2.1 + (n + 1)); omega⟩, fun i h0 hi => ?_, fun i j hi hj il jl e => ?_, fun i hi il => ?_, fun i hi => ?_, fun i hi k => ?_⟩
    · show (if i = h.1 then H.size else mp i) = _
      rw [if_neg (by omega)]; exact h2 i h0 hi
    · have il' : i < h.1 + 1 := il
      have jl' : j < h.1 + 1 := jl
      have e' : (if i = h.1 then H.size else mp i) = (if j = h.1 then H.size else mp j) := e
      by_cases ci : i = h.1 <;> by_cases cj : j = h.1
      · omega
      · rw [if_pos ci, if_neg cj] at e'
        rcases h4 j hj (by omega) with g | g <;> omega
      · rw [if_neg ci, if_pos cj] at e'
        rcases h4 i hi (by omega) with g | g <;> omega
      · rw [if_neg ci, if_neg cj] at e'
        exact h3 i j hi hj (by omega) (by omega) e'
    · have il' : i < h.1 + 1 := il
      show (if i = h.1 then H.size else mp i) < H1.size ∨ gB G + LIM < (if i = h.1 then H.size else mp i)
      by_cases ci : i = h.1
      · rw [if_pos ci]; exact Or.inl (by omega)
      · rw [if_neg ci]; rcases h4 i hi (by omega) with g | g
        · exact Or.inl (by omega)
        · exact Or.inr g
    · by_cases ci : i = h.1
      · subst ci
        have e2 : (hnew h n c).2.2 h.1 = c := if_pos rfl
        refine ⟨by omega, Nat.lt_succ_self _, fun _ => ?_, ?_⟩
        · show gB G ≤ (if h.1 = h.1 then H.size else mp h.1)
          rw [if_pos rfl]; exact a3
        · rw [e2]
          show AtC G _ c (if h.1 = h.1 then H.size else mp h.1) U H1
          rw [if_pos rfl]
          exact hA.xt (hxr c fun k => by rw [hc k]; omega)
      · have e2 : (hnew h n c).2.2 i = h.2.2 i := if_neg ci
        have e3 : tg (hnew h n c) i = tg h i := by show ((hnew h n c).2.2 i).1 = _; rw [e2]
        rw [e3] at hi
        obtain ⟨r1, r2, r3, r4⟩ := h5 i hi
        have e4 : (if i = h.1 then H.size else mp i) = mp i := if_neg ci
        refine ⟨r1, Nat.lt_succ_of_lt r2, fun hk => ?_, ?_⟩
        · show gB G ≤ (if i = h.1 then H.size else mp i)
          rw [e4]; exact r3 (e3 ▸ hk)
        · rw [e2]
          show AtC G _ (h.2.2 i) (if i = h.1 then H.size else mp i) U H1
          rw [e4]
          exact (r4.xt (hxr _ (h6 i r2))).kept (hq _ r4.lt)
    · have hi' : i < h.1 + 1 := hi
      show (if i = h.1 then c else h.2.2 i).2.2.2.1 k < h.1 + 1
      split
      · rw [hc k]; omega
      · have := h6 i (by omega) k
        omega
  · rintro h mp U H ⟨⟨a1, -⟩, h2, -⟩
    exact ⟨a1, h2⟩
theorem lvF_RL1 (G : Gx) : LvF (RL1 G) := by
  rintro h mp U H ⟨⟨a1, a2, a3, a4, a5⟩, h2, h3, h4, h5, h6⟩ hl H1 hz hz2 ht hq
  refine ⟨⟨a1, hl, by omega, by show H1.size ≤ gB G + (h.2.1 + 7); omega, by show totS H1 ≤ gT G + (h.2.1 + 7); omega⟩, h2, h3, fun i hi il => ?_, fun i hi => ?_, h6⟩
  · rcases h4 i hi il with g | g
    · exact Or.inl (by omega)
    · exact Or.inr g
  · obtain ⟨r1, r2, r3, r4⟩ := h5 i hi
    exact ⟨r1, r2, r3, r4.kept (hq _ r4.lt)⟩
