section
/-- whether the side that moves at position p may wait -/
def ch_M (gw tw : Int32) (p : Nat) : Int32 := if p % 2 = 1 then tw else gw
/-- who has won a position that is over -/
def ch_ov (e : Int32) (p : Nat) : Int32 := if p / 2 % 6 = p / 72 then 1 else if p / 2 % 6 = p / 12 % 6 then 1 else if (e >>> (nI (p / 2 % 6) &&& 31)) &&& 1 = 1 then 2 else 0
/-- the winner that the first pass writes (no doors: a side that can't wait has no move) -/
def ch_W (gw tw e : Int32) (p : Nat) : Int32 := if ch_ov e p = 0 then (if ch_M gw tw p = 0 then (if p % 2 = 1 then 1 else 2) else 0) else ch_ov e p
/-- the position behind (and ahead of) a wait -/
def ch_x (p : Nat) : Nat := if p % 2 = 0 then p + 1 else p - 1
/-- how many of the first n places aren't 0 -/
def ch_cnt (f : Nat → Int32) : Nat → Nat
  | 0 => 0
  | n + 1 => ch_cnt f n + (if f n = 0 then 0 else 1)
theorem ch_xx (p : Nat) : ch_x (ch_x p) = p := by
  by_cases h : p % 2 = 0
  · have e : ch_x p = p + 1 := if_pos h
    have e2 : ch_x (p + 1) = p + 1 - 1 := if_neg (by omega)
    rw [e, e2]
    omega
  · have e : ch_x p = p - 1 := if_neg h
    have e2 : ch_x (p - 1) = p - 1 + 1 := if_pos (by omega)
    rw [e, e2]
    omega
theorem ch_xlt {p : Nat} (hp : p < 432) : ch_x p < 432 := by
  by_cases h : p % 2 = 0
  · have e : ch_x p = p + 1 := if_pos h
    rw [e]
    omega
  · have e : ch_x p = p - 1 := if_neg h
    rw [e]
    omega
theorem ch_cle (f : Nat → Int32) (n : Nat) : ch_cnt f n ≤ n := by
  induction n with
  | zero => exact Nat.le_refl 0
  | succ n ih =>
    simp only [ch_cnt]
    split <;> omega
theorem ch_clt {f : Nat → Int32} {n p : Nat} (hp : p < n) (hz : f p = 0) : ch_cnt f n < n := by
  induction n with
  | zero => omega
  | succ n ih =>
    simp only [ch_cnt]
    by_cases e : p = n
    · subst e
      rw [if_pos hz]
      have := ch_cle f p
      omega
    · have := ih (by omega)
      split <;> omega
theorem ch_ccong {f g : Nat → Int32} {n : Nat} (h : ∀ j, j < n → f j = g j) : ch_cnt f n = ch_cnt g n := by
  induction n with
  | zero => rfl
  | succ n ih =>
    simp only [ch_cnt]
    rw [ih (fun j hj => h j (by omega)), h n (by omega)]
theorem ch_cupd {f : Nat → Int32} {n p : Nat} {v : Int32} (hp : p < n) (hz : f p = 0) (hv : ¬ v = 0) : ch_cnt (upd f p v) n = ch_cnt f n + 1 := by
  induction n with
  | zero => omega
  | succ n ih =>
    simp only [ch_cnt]
    by_cases e : p = n
    · subst e
      have c : ch_cnt (upd f p v) p = ch_cnt f p := ch_ccong (fun j hj => pk_un (by omega))
      rw [pk_us, if_neg hv, if_pos hz, c]
    · have u : upd f p v n = f n := pk_un (fun z => e z.symm)
      rw [u, ih (by omega)]
      omega
/-- what the table holds when it is ready -/
def ch_R (M W a3 a4 : Nat → Int32) : Prop := ∀ p, p < 432 → (¬ W p = 0 → a3 p = W p ∧ a4 p = 0) ∧ (W p = 0 → ¬ W (ch_x p) = 0 → ¬ M p = 0 → a3 p = W (ch_x p) ∧ a4 p = 1) ∧ (W p = 0 → W (ch_x p) = 0 → a3 p = 0)
/-- the second pass: i places of the queue are told, q are there -/
def ch_I (M W : Nat → Int32) (i q : Nat) (a3 a4 a5 a6 : Nat → Int32) : Prop :=
  q = ch_cnt a3 432 ∧
  (∀ k, k < q → ∃ p, p < 432 ∧ a6 k = nI p ∧ ¬ a3 p = 0) ∧
  (∀ p, p < 432 → ¬ W p = 0 → a3 p = W p ∧ a4 p = 0 ∧ ∃ k, k < q ∧ a6 k = nI p) ∧
  (∀ p, p < 432 → W p = 0 → ¬ a3 p = 0 → ¬ W (ch_x p) = 0 ∧ a3 p = W (ch_x p) ∧ a4 p = 1) ∧
  (∀ p, p < 432 → a3 p = 0 → a5 p = M p) ∧
  (∀ k p, k < i → k < q → p < 432 → a6 k = nI p → ¬ M (ch_x p) = 0 → ¬ a3 (ch_x p) = 0)
theorem ch_same {f : Nat → Int32} {k p r : Nat} (hp : p < 432) (hr : r < 432) (h : f k = nI p) (h2 : f k = nI r) : r = p := by
  rw [h] at h2
  exact ((nI_eq (by omega) (by omega)).mp h2).symm
theorem ch_I0 {M W : Nat → Int32} {i q p : Nat} {a3 a4 a5 a6 : Nat → Int32} (h : ch_I M W i q a3 a4 a5 a6) (hp : p < 432) (h6 : a6 i = nI p) (hz : M (ch_x p) = 0 ∨ ¬ a3 (ch_x p) = 0) : ch_I M W (i + 1) q a3 a4 a5 a6 := by
  obtain ⟨c1, c2, c3, c4, c5, c6⟩ := h
  refine ⟨c1, c2, c3, c4, c5, fun k r hk hkq hr hkr hM => ?_⟩
  by_cases e : k = i
  · rw [e] at hkr
    have er := ch_same hp hr h6 hkr
    rw [er] at hM ⊢
    rcases hz with z | z
    · exact absurd z hM
    · exact z
  · exact c6 k r (by omega) hkq hr hkr hM
/-- what a move told of by the queue says of the position behind it -/
theorem ch_If {M W : Nat → Int32} {i q p : Nat} {a3 a4 a5 a6 : Nat → Int32} (h : ch_I M W i q a3 a4 a5 a6) (hp : p < 432) (h3 : ¬ a3 p = 0) (hz : a3 (ch_x p) = 0) : q < 432 ∧ W (ch_x p) = 0 ∧ ¬ W p = 0 ∧ a3 p = W p ∧ a4 p = 0 ∧ a5 (ch_x p) = M (ch_x p) := by
  obtain ⟨c1, c2, c3, c4, c5, c6⟩ := h
  have hx := ch_xlt hp
  have A : W (ch_x p) = 0 := by
    by_cases w : W (ch_x p) = 0
    · exact w
    · have t := (c3 (ch_x p) hx w).1
      rw [hz] at t
      exact t.symm
  have B : ¬ W p = 0 := fun w => (c4 p hp w h3).1 A
  have C := c3 p hp B
  refine ⟨?_, A, B, C.1, C.2.1, c5 _ hx hz⟩
  rw [c1]
  exact ch_clt hx hz
theorem ch_I1 {M W : Nat → Int32} {i q p : Nat} {a3 a4 a5 a6 : Nat → Int32} (h : ch_I M W i q a3 a4 a5 a6) (hi : i < q) (hp : p < 432) (h6 : a6 i = nI p) (h3 : ¬ a3 p = 0) (hz : a3 (ch_x p) = 0) :
    ch_I M W (i + 1) (q + 1) (upd a3 (ch_x p) (a3 p)) (upd a4 (ch_x p) (a4 p + 1)) (upd a5 (ch_x p) 0) (upd a6 q (nI (ch_x p))) := by
  obtain ⟨f1, f2, f3, f4, f5, f6⟩ := ch_If h hp h3 hz
  obtain ⟨c1, c2, c3, c4, c5, c6⟩ := h
  have hx := ch_xlt hp
  have nz : ∀ r, ¬ a3 r = 0 → ¬ upd a3 (ch_x p) (a3 p) r = 0 := by
    intro r hr
    by_cases e : r = ch_x p
    · rw [e, pk_us]
      exact h3
    · rw [pk_un e]
      exact hr
  refine ⟨?_, ?_, ?_, ?_, ?_, ?_⟩
  · rw [ch_cupd hx hz h3, ← c1]
  · intro k hk
    by_cases e : k = q
    · refine ⟨ch_x p, hx, ?_, ?_⟩
      · rw [e, pk_us]
      · rw [pk_us]
        exact h3
    · obtain ⟨r, r1, r2, r3⟩ := c2 k (by omega)
      refine ⟨r, r1, ?_, nz r r3⟩
      rw [pk_un e]
      exact r2
  · intro r hr hw
    have e : r ≠ ch_x p := fun z => hw (by rw [z]; exact f2)
    obtain ⟨d1, d2, k, k1, k2⟩ := c3 r hr hw
    refine ⟨?_, ?_, k, by omega, ?_⟩
    · rw [pk_un e]
      exact d1
    · rw [pk_un e]
      exact d2
    · rw [pk_un (by omega)]
      exact k2
  · intro r hr hw hn
    by_cases e : r = ch_x p
    · rw [e, ch_xx, pk_us, pk_us]
      refine ⟨f3, f4, ?_⟩
      rw [f5]
      decide
    · rw [pk_un e] at hn ⊢
      rw [pk_un e]
      exact c4 r hr hw hn
  · intro r hr hn
    by_cases e : r = ch_x p
    · rw [e, pk_us] at hn
      exact absurd hn h3
    · rw [pk_un e] at hn ⊢
      exact c5 r hr hn
  · intro k r hk hkq hr hkr hM
    rw [pk_un (show k ≠ q by omega)] at hkr
    by_cases e : k = i
    · rw [e] at hkr
      have er := ch_same hp hr h6 hkr
      rw [er, pk_us]
      exact h3
    · exact nz _ (c6 k r (by omega) (by omega) hr hkr hM)
theorem ch_IR {M W : Nat → Int32} {i q : Nat} {a3 a4 a5 a6 : Nat → Int32} (h : ch_I M W i q a3 a4 a5 a6) (hi : q ≤ i) : ch_R M W a3 a4 := by
  obtain ⟨c1, c2, c3, c4, c5, c6⟩ := h
  intro p hp
  have hx := ch_xlt hp
  refine ⟨fun w => ⟨(c3 p hp w).1, (c3 p hp w).2.1⟩, fun w wx hM => ?_, fun w wx => ?_⟩
  · obtain ⟨_, _, k, k1, k2⟩ := c3 (ch_x p) hx wx
    have t := c6 k (ch_x p) (by omega) k1 hx k2
    rw [ch_xx] at t
    exact (c4 p hp w (t hM)).2
  · by_cases z : a3 p = 0
    · exact z
    · exact absurd wx (c4 p hp w z).1
theorem ch_Iq {M W : Nat → Int32} {i q : Nat} {a3 a4 a5 a6 : Nat → Int32} (h : ch_I M W i q a3 a4 a5 a6) : q ≤ 432 := by
  rw [h.1]
  exact ch_cle a3 432
/-- the first pass: i positions are seen, q are in the queue -/
def ch_J (M W : Nat → Int32) (i q : Nat) (a3 a4 a5 a6 : Nat → Int32) : Prop :=
  q ≤ i ∧ q = ch_cnt a3 i ∧
  (∀ p, p < i → a3 p = W p ∧ a4 p = 0 ∧ a5 p = M p) ∧
  (∀ k, k < q → ∃ p, p < i ∧ a6 k = nI p ∧ ¬ W p = 0) ∧
  (∀ p, p < i → ¬ W p = 0 → ∃ k, k < q ∧ a6 k = nI p)
theorem ch_Js {M W : Nat → Int32} (a3 a4 a5 a6 : Nat → Int32) : ch_J M W 0 0 a3 a4 a5 a6 :=
  ⟨Nat.le_refl 0, rfl, fun p hp => absurd hp (by omega), fun p hp => absurd hp (by omega), fun p hp => absurd hp (by omega)⟩
theorem ch_J0 {M W : Nat → Int32} {i q : Nat} {a3 a4 a5 a6 : Nat → Int32} (h : ch_J M W i q a3 a4 a5 a6) (hw : W i = 0) : ch_J M W (i + 1) q (upd a3 i 0) (upd a4 i 0) (upd a5 i (M i)) a6 := by
  obtain ⟨c1, c2, c3, c4, c5⟩ := h
  refine ⟨by omega, ?_, ?_, ?_, ?_⟩
  · simp only [ch_cnt]
    have c : ch_cnt (upd a3 i 0) i = ch_cnt a3 i := ch_ccong (fun j hj => pk_un (by omega))
    rw [pk_us, if_pos rfl, c]
    exact c2
  · intro p hp
    by_cases e : p = i
    · rw [e, pk_us, pk_us, pk_us]
      exact ⟨hw.symm, rfl, rfl⟩
    · rw [pk_un e, pk_un e, pk_un e]
      exact c3 p (by omega)
  · intro k hk
    obtain ⟨p, p1, p2, p3⟩ := c4 k hk
    exact ⟨p, by omega, p2, p3⟩
  · intro p hp hn
    by_cases e : p = i
    · rw [e] at hn
      exact absurd hw hn
    · exact c5 p (by omega) hn
theorem ch_J1 {M W : Nat → Int32} {i q : Nat} {a3 a4 a5 a6 : Nat → Int32} (h : ch_J M W i q a3 a4 a5 a6) (hw : ¬ W i = 0) : ch_J M W (i + 1) (q + 1) (upd (upd a3 i 0) i (W i)) (upd (upd a4 i 0) i 0) (upd a5 i (M i)) (upd a6 q (nI i)) := by
  obtain ⟨c1, c2, c3, c4, c5⟩ := h
  refine ⟨by omega, ?_, ?_, ?_, ?_⟩
  · simp only [ch_cnt]
    have c : ch_cnt (upd (upd a3 i 0) i (W i)) i = ch_cnt a3 i := ch_ccong (fun j hj => by rw [pk_un (by omega), pk_un (by omega)])
    rw [pk_us, if_neg hw, c, ← c2]
  · intro p hp
    by_cases e : p = i
    · rw [e, pk_us, pk_us, pk_us]
      exact ⟨rfl, rfl, rfl⟩
    · rw [pk_un e, pk_un e, pk_un e, pk_un e, pk_un e]
      exact c3 p (by omega)
  · intro k hk
    by_cases e : k = q
    · refine ⟨i, by omega, ?_, hw⟩
      rw [e, pk_us]
    · obtain ⟨p, p1, p2, p3⟩ := c4 k (by omega)
      refine ⟨p, by omega, ?_, p3⟩
      rw [pk_un e]
      exact p2
  · intro p hp hn
    by_cases e : p = i
    · refine ⟨q, by omega, ?_⟩
      rw [e, pk_us]
    · obtain ⟨k, k1, k2⟩ := c5 p (by omega) hn
      refine ⟨k, by omega, ?_⟩
      rw [pk_un (by omega)]
      exact k2
theorem ch_JI {M W : Nat → Int32} {q : Nat} {a3 a4 a5 a6 : Nat → Int32} (h : ch_J M W 432 q a3 a4 a5 a6) : ch_I M W 0 q a3 a4 a5 a6 := by
  obtain ⟨c1, c2, c3, c4, c5⟩ := h
  refine ⟨c2, ?_, ?_, ?_, ?_, ?_⟩
  · intro k hk
    obtain ⟨p, p1, p2, p3⟩ := c4 k hk
    refine ⟨p, p1, p2, ?_⟩
    rw [(c3 p p1).1]
    exact p3
  · intro p hp hw
    exact ⟨(c3 p hp).1, (c3 p hp).2.1, c5 p hp hw⟩
  · intro p hp hw hn
    rw [(c3 p hp).1] at hn
    exact absurd hw hn
  · intro p hp _
    exact (c3 p hp).2.2
  · intro k p hk
    exact absurd hk (by omega)
end
section
theorem ch_d72 {p : Nat} (h : p < 432) : nI p / 72 = nI (p / 72) := pk_div (d := 72) (by omega) (by omega) (by omega)
theorem ch_d12 {p : Nat} (h : p < 432) : nI p / 12 - nI p / 12 / 6 * 6 = nI (p / 12 % 6) := by
  have e : nI p / 12 = nI (p / 12) := pk_div (d := 12) (by omega) (by omega) (by omega)
  rw [e]
  exact pk_rem (d := 6) (by omega) (by omega) (by omega)
theorem ch_d2 {p : Nat} (h : p < 432) : nI p / 2 - nI p / 2 / 6 * 6 = nI (p / 2 % 6) := by
  have e : nI p / 2 = nI (p / 2) := pk_div (d := 2) (by omega) (by omega) (by omega)
  rw [e]
  exact pk_rem (d := 6) (by omega) (by omega) (by omega)
theorem ch_par {p : Nat} (h : p < 432) : nI p - nI p / 2 * 2 = nI (p % 2) := pk_rem (d := 2) (by omega) (by omega) (by omega)
theorem ch_s16 : ∀ p, p < 432 → (nI p).toInt16.toInt32 = nI p := by decide +kernel
theorem ch_z : ∀ i, i < 6 → ((0 : Int32) >>> (nI i &&& 31)) &&& 1 = 0 := by decide +kernel
theorem ch_nz {i : Nat} (hi : i < 6) : ¬ (((0 : Int32) >>> (nI i &&& 31)) &&& 1) = 1 := by
  rw [ch_z i hi]
  decide
theorem ch_u {f : Nat → Int32} {p : Nat} {w w' : Int32} (hp : p < 432) (h : w' = w) : upd f (nI p).toNatClampNeg w' = upd f p w := by
  rw [nI_clamp (by omega), h]
theorem ch_pt {post : Int32 → Prop} {t x y : Int32} (ht : t = 0 ∨ t = 1) (h : post t) (hx : x = 0) (hy : y = 1) : (t = 0 → post x) ∧ (¬ t = 0 → post y) := by
  rcases ht with rfl | rfl
  · exact br_t rfl (by rw [hx]; exact h)
  · exact br_f (by decide) (by rw [hy]; exact h)
theorem ch_bits {post : Int32 → Prop} {u : St0} (h : post 0) : wpX_bits post u 0 :=
  pk_loop (σ := Unit) (fun n i _ => wX_bits_4 post 0 n 0 (nI i)) (fun _ _ => True) 6 0 () (by omega) trivial
    (fun n _ _ => pk_le 6 6 (fun _ => h) (fun z => absurd z (by omega)))
    (fun n i _ hi _ hw => pk_le 6 i (fun z => absurd z (by omega)) (fun _ => nm_r (show (0 : Int32) + (((0 : Int32) >>> (nI i &&& 31)) &&& 1) = 0 from by rw [ch_z i hi]; decide) (nm_r (nI_1 i) (hw () trivial))))
theorem ch_mc {post : Int32 → Prop} {gw tw e bA bB bT bS rd q : Int32} {a2 a3 a4 a5 a6 : Nat → Int32} {p : Nat} (hp : p < 432) (hg : gw = 0 ∨ gw = 1) (ht : tw = 0 ∨ tw = 1) (h : post (ch_M gw tw p)) :
    wpX_moveCount post (gw, tw, e, bA, bB, bT, bS, rd, q, (fun _ => 0), a2, a3, a4, a5, a6) (nI p) := by
  refine ⟨by decide, pk_in (p / 72) 6 (by omega) (ch_d72 hp), nm_r (show _ = (0 : Int32) from rfl) ⟨by decide, by decide, pk_in (p / 12 % 6) 6 (by omega) (ch_d12 hp), nm_r (show _ = (0 : Int32) from rfl) ⟨by decide, by decide, pk_in (p / 2 % 6) 6 (by omega) (ch_d2 hp), nm_r (show _ = (0 : Int32) from rfl) ⟨by decide, pk_eq (p % 2) 1 (fun z => ?_) (fun z => ?_) (ch_par hp)⟩⟩⟩⟩
  · have hM : ch_M gw tw p = tw := if_pos z
    rw [hM] at h
    exact ch_bits (ch_pt ht h rfl (by decide))
  · have hM : ch_M gw tw p = gw := if_neg z
    rw [hM] at h
    exact ch_bits (ch_bits (ch_pt hg h (by decide) (by decide)))
theorem ch_over {post : Int32 → Prop} {gw tw e bA bB bT bS rd q : Int32} {a1 a2 a3 a4 a5 a6 : Nat → Int32} {p : Nat} (hp : p < 432) (h : post (ch_ov e p)) :
    wpX_over post (gw, tw, e, bA, bB, bT, bS, rd, q, a1, a2, a3, a4, a5, a6) (nI p) := by
  refine ⟨by decide, nm_r (ch_d72 hp) ⟨by decide, by decide, nm_r (ch_d12 hp) ⟨by decide, by decide, nm_r (ch_d2 hp) (pk_eq (p / 2 % 6) (p / 72) (fun z => ?_) (fun z => pk_eq (p / 2 % 6) (p / 12 % 6) (fun z2 => ?_) (fun z2 => br_c (fun z3 => ?_) (fun z3 => ?_))))⟩⟩⟩
  · have e1 : ch_ov e p = 1 := if_pos z
    rw [e1] at h
    exact h
  · have e1 : ch_ov e p = 1 := (if_neg z).trans (if_pos z2)
    rw [e1] at h
    exact h
  · have e1 : ch_ov e p = 2 := (if_neg z).trans ((if_neg z2).trans (if_pos z3))
    rw [e1] at h
    exact h
  · have e1 : ch_ov e p = 0 := (if_neg z).trans ((if_neg z2).trans (if_neg z3))
    rw [e1] at h
    exact h
theorem ch_settle {post : St2 → Prop} {gw tw e bA bB bT bS rd w l : Int32} {a1 a2 a3 a4 a5 a6 : Nat → Int32} {p q : Nat} (hp : p < 432) (hq : q < 432) (hw : w.toInt8.toInt32 = w) (hl : l.toInt16.toInt32 = l)
    (h : post (gw, tw, e, bA, bB, bT, bS, rd, nI (q + 1), a1, a2, upd a3 p w, upd a4 p l, a5, upd a6 q (nI p))) :
    wpX_settle post (gw, tw, e, bA, bB, bT, bS, rd, nI q, a1, a2, a3, a4, a5, a6) (nI p) w l :=
  pk_lt q 432 (fun _ => ⟨pk_in p 432 hp, nm_r (ch_u hp hw) ⟨pk_in p 432 hp, nm_r (ch_u hp hl) ⟨pk_in q 432 hq, nm_r (ch_u hq (ch_s16 p hp)) (nm_r (nI_1 q) h)⟩⟩⟩) (fun z => absurd z (by omega))
theorem ch_a22 {post : St2 → Prop} {gw tw e bA bB bT bS rd w l z0 : Int32} {a1 a2 a3 a4 a5 a6 : Nat → Int32} {p q : Nat} (hp : p < 432) (hq : q < 432) (hw : w.toInt8.toInt32 = w) (hl : l.toInt16.toInt32 = l) (h5 : a5 p = 1)
    (h : post (gw, tw, e, bA, bB, bT, bS, rd, nI (q + 1), a1, a2, upd a3 p w, upd a4 p l, upd a5 p 0, upd a6 q (nI p))) :
    wX_answer_22 post (nI p) w l z0 gw tw e bA bB bT bS rd (nI q) a1 a2 a3 a4 a5 a6 := by
  have hc : (nI p).toNatClampNeg = p := nI_clamp (by omega)
  have S : wX_answer_50 post (nI p) w l gw tw e bA bB bT bS rd (nI q) a1 a2 a3 a4 (upd a5 p 0) a6 := ch_settle hp hq hw hl h
  have hv : (a5 (nI p).toNatClampNeg - 1).toInt8.toInt32 = 0 := by
    rw [hc, h5]
    decide
  have h0 : upd a5 p 0 (nI p).toNatClampNeg = 0 := by
    rw [hc, pk_us]
  exact ⟨pk_in p 432 hp, pk_in p 432 hp, nm_r (ch_u hp hv) (br_c (fun _ => S) (fun _ => ⟨pk_in p 432 hp, br_t h0 S⟩))⟩
theorem ch_ans {post : St2 → Prop} {x gw tw e bA bB bT bS rd w l : Int32} {a1 a2 a3 a4 a5 a6 : Nat → Int32} {p q : Nat} (hp : p < 432) (hx : x = nI p) (hz : a3 p = 0 → q < 432 ∧ w.toInt8.toInt32 = w ∧ l.toInt16.toInt32 = l ∧ a5 p = 1)
    (h0 : ¬ a3 p = 0 → post (gw, tw, e, bA, bB, bT, bS, rd, nI q, a1, a2, a3, a4, a5, a6))
    (h1 : a3 p = 0 → post (gw, tw, e, bA, bB, bT, bS, rd, nI (q + 1), a1, a2, upd a3 p w, upd a4 p l, upd a5 p 0, upd a6 q (nI p))) :
    wpX_answer post (gw, tw, e, bA, bB, bT, bS, rd, nI q, a1, a2, a3, a4, a5, a6) x w l := by
  subst hx
  have hc : (nI p).toNatClampNeg = p := nI_clamp (by omega)
  have ha : a3 (nI p).toNatClampNeg = a3 p := by rw [hc]
  refine ⟨pk_in p 432 hp, br_c (fun z => ?_) (fun z => ?_)⟩
  · have z' : a3 p = 0 := ha.symm.trans z
    obtain ⟨i1, i2, i3, i4⟩ := hz z'
    exact ⟨by decide, br_c (fun _ => ch_a22 hp i1 i2 i3 i4 (h1 z')) (fun _ => ch_a22 hp i1 i2 i3 i4 (h1 z'))⟩
  · exact h0 (fun t => z (ha.trans t))
theorem ch_s48 {post : St2 → Prop} {gw tw e bA bB bT bS rd w l : Int32} {a1 a3 a4 a5 a6 : Nat → Int32} {p q t r : Nat} (hr : r < 432) (hpr : nI p + 1 = nI r) (ht : t < 6) (hz : ¬ tw = 0 → a3 r = 0 → q < 432 ∧ w.toInt8.toInt32 = w ∧ l.toInt16.toInt32 = l ∧ a5 r = 1)
    (h0 : (tw = 0 ∨ ¬ a3 r = 0) → post (gw, tw, e, bA, bB, bT, bS, rd, nI q, a1, (fun _ => 0), a3, a4, a5, a6))
    (h1 : ¬ tw = 0 → a3 r = 0 → post (gw, tw, e, bA, bB, bT, bS, rd, nI (q + 1), a1, (fun _ => 0), upd a3 r w, upd a4 r l, upd a5 r 0, upd a6 q (nI r))) :
    ∃ n, wX_spread_48 post (nI p) (nI t) w l n 0 gw tw e bA bB bT bS rd (nI q) a1 (fun _ => 0) a3 a4 a5 a6 :=
  pk_loop (σ := Unit) (fun n i _ => wX_spread_48 post (nI p) (nI t) w l n (nI i) gw tw e bA bB bT bS rd (nI q) a1 (fun _ => 0) a3 a4 a5 a6) (fun _ _ => True) 6 0 () (by omega) trivial
    (fun n _ _ => pk_le 6 6 (fun _ => br_c (fun z => h0 (Or.inl z)) (fun z => ch_ans hr hpr (hz z) (fun y => h0 (Or.inr y)) (h1 z))) (fun z => absurd z (by omega)))
    (fun n i _ hi _ hw => pk_le 6 i (fun z => absurd z (by omega)) (fun _ => ⟨pk_in t 6 ht, br_f (ch_nz hi) (nm_r (nI_1 i) (hw () trivial))⟩))
theorem ch_s118 {post : St2 → Prop} {gw tw e bA bB bT bS rd w l : Int32} {a1 a3 a4 a5 a6 : Nat → Int32} {p q a b r : Nat} (hr : r < 432) (hpr : nI p - 1 = nI r) (ha : a < 6) (hb : b < 6) (hz : ¬ gw = 0 → a3 r = 0 → q < 432 ∧ w.toInt8.toInt32 = w ∧ l.toInt16.toInt32 = l ∧ a5 r = 1)
    (h0 : (gw = 0 ∨ ¬ a3 r = 0) → post (gw, tw, e, bA, bB, bT, bS, rd, nI q, a1, (fun _ => 0), a3, a4, a5, a6))
    (h1 : ¬ gw = 0 → a3 r = 0 → post (gw, tw, e, bA, bB, bT, bS, rd, nI (q + 1), a1, (fun _ => 0), upd a3 r w, upd a4 r l, upd a5 r 0, upd a6 q (nI r))) :
    ∃ n, wX_spread_118 post (nI p) (nI a) (nI b) w l n 0 gw tw e bA bB bT bS rd (nI q) a1 (fun _ => 0) a3 a4 a5 a6 :=
  pk_loop (σ := Unit) (fun n i _ => wX_spread_118 post (nI p) (nI a) (nI b) w l n (nI i) gw tw e bA bB bT bS rd (nI q) a1 (fun _ => 0) a3 a4 a5 a6) (fun _ _ => True) 6 0 () (by omega) trivial
    (fun n _ _ => pk_le 6 6 (fun _ => br_c (fun z => h0 (Or.inl z)) (fun z => ch_ans hr hpr (hz z) (fun y => h0 (Or.inr y)) (h1 z))) (fun z => absurd z (by omega)))
    (fun n i _ hi _ hw => pk_le 6 i (fun z => absurd z (by omega)) (fun _ => ⟨pk_in a 6 ha, br_f (ch_nz hi) ⟨pk_in b 6 hb, br_f (ch_nz hi) (nm_r (nI_1 i) (hw () trivial))⟩⟩))
/-- one position of the queue is told to the position a wait behind it -/
theorem ch_spread {post : St2 → Prop} {gw tw e bA bB bT bS rd : Int32} {a1 a3 a4 a5 a6 : Nat → Int32} {p q : Nat} (hp : p < 432)
    (hz : ¬ ch_M gw tw (ch_x p) = 0 → a3 (ch_x p) = 0 → q < 432 ∧ (a3 p).toInt8.toInt32 = a3 p ∧ (a4 p + 1).toInt16.toInt32 = a4 p + 1 ∧ a5 (ch_x p) = 1)
    (h0 : (ch_M gw tw (ch_x p) = 0 ∨ ¬ a3 (ch_x p) = 0) → post (gw, tw, e, bA, bB, bT, bS, rd, nI q, a1, (fun _ => 0), a3, a4, a5, a6))
    (h1 : ¬ ch_M gw tw (ch_x p) = 0 → a3 (ch_x p) = 0 → post (gw, tw, e, bA, bB, bT, bS, rd, nI (q + 1), a1, (fun _ => 0), upd a3 (ch_x p) (a3 p), upd a4 (ch_x p) (a4 p + 1), upd a5 (ch_x p) 0, upd a6 q (nI (ch_x p)))) :
    wpX_spread post (gw, tw, e, bA, bB, bT, bS, rd, nI q, a1, (fun _ => 0), a3, a4, a5, a6) (nI p) := by
  have hc : (nI p).toNatClampNeg = p := nI_clamp (by omega)
  have e3 : a3 (nI p).toNatClampNeg = a3 p := by rw [hc]
  have e4 : a4 (nI p).toNatClampNeg + 1 = a4 p + 1 := by rw [hc]
  refine ⟨by decide, nm_r (ch_d72 hp) ⟨by decide, by decide, nm_r (ch_d12 hp) ⟨by decide, by decide, nm_r (ch_d2 hp) ⟨pk_in p 432 hp, nm_r e3 ⟨pk_in p 432 hp, nm_r e4 ⟨by decide, pk_eq (p % 2) 0 (fun z => ?_) (fun z => ?_) (ch_par hp)⟩⟩⟩⟩⟩⟩
  · have ex : ch_x p = p + 1 := if_pos z
    have eM : ch_M gw tw (ch_x p) = tw := if_pos (by rw [ex]; omega)
    rw [eM] at hz h0 h1
    exact ch_s48 (ch_xlt hp) (by rw [nI_1, ex]) (by omega) hz h0 h1
  · have ex : ch_x p = p - 1 := if_neg z
    have eM : ch_M gw tw (ch_x p) = gw := if_neg (by rw [ex]; omega)
    rw [eM] at hz h0 h1
    have e1 : nI p - 1 = nI (ch_x p) := by
      rw [ex, show p = p - 1 + 1 by omega, nI_pred]
      rfl
    exact ch_s118 (ch_xlt hp) e1 (by omega) (by omega) hz h0 h1
end
section
theorem ch_M8 {gw tw : Int32} (hg : gw = 0 ∨ gw = 1) (ht : tw = 0 ∨ tw = 1) (p : Nat) : (ch_M gw tw p = 0 ∨ ch_M gw tw p = 1) ∧ (ch_M gw tw p).toInt8.toInt32 = ch_M gw tw p := by
  have h : ch_M gw tw p = 0 ∨ ch_M gw tw p = 1 := by
    unfold ch_M
    split
    · exact ht
    · exact hg
  refine ⟨h, ?_⟩
  rcases h with h | h
  · rw [h]
    decide
  · rw [h]
    decide
theorem ch_W8 (gw tw e : Int32) (p : Nat) : (ch_W gw tw e p).toInt8.toInt32 = ch_W gw tw e p := by
  have h : ch_W gw tw e p = 0 ∨ ch_W gw tw e p = 1 ∨ ch_W gw tw e p = 2 := by
    unfold ch_W ch_ov
    repeat' split
    all_goals first | exact Or.inl rfl | exact Or.inr (Or.inl rfl) | exact Or.inr (Or.inr rfl)
  rcases h with h | h | h
  · rw [h]
    decide
  · rw [h]
    decide
  · rw [h]
    decide
/-- the second pass -/
theorem ch_96 {post : St2 → Prop} {gw tw e bA bB bT bS rd : Int32} {a1 a3 a4 a5 a6 : Nat → Int32} {q : Nat} (hg : gw = 0 ∨ gw = 1) (ht : tw = 0 ∨ tw = 1)
    (hI : ch_I (ch_M gw tw) (ch_W gw tw e) 0 q a3 a4 a5 a6)
    (H : ∀ q a3 a4 a5 a6, ch_R (ch_M gw tw) (ch_W gw tw e) a3 a4 → post (gw, tw, e, bA, bB, bT, bS, 1, nI q, a1, (fun _ => 0), a3, a4, a5, a6)) :
    ∃ n, wX_prepare_96 post n 0 gw tw e bA bB bT bS rd (nI q) a1 (fun _ => 0) a3 a4 a5 a6 := by
  refine lp6 (fun n (i q : Nat) a3 a4 a5 a6 => wX_prepare_96 post n (nI i) gw tw e bA bB bT bS rd (nI q) a1 (fun _ => 0) a3 a4 a5 a6) (fun i q a3 a4 a5 a6 => i ≤ 432 ∧ ch_I (ch_M gw tw) (ch_W gw tw e) i q a3 a4 a5 a6) (fun i _ _ _ _ _ => 432 - i) ?_ 0 q a3 a4 a5 a6 ⟨by omega, hI⟩
  intro n i q a3 a4 a5 a6 hh hw
  obtain ⟨hi, h⟩ := hh
  have hq := ch_Iq h
  refine pk_le q i (fun z => H q a3 a4 a5 a6 (ch_IR h z)) (fun z => pk_le 432 i (fun z2 => absurd z2 (by omega)) (fun z2 => ⟨pk_in i 432 z2, ?_⟩))
  obtain ⟨p, p1, p2, p3⟩ := h.2.1 i z
  have hc : a6 (nI i).toNatClampNeg = nI p := by
    rw [nI_clamp (by omega)]
    exact p2
  rw [hc]
  refine ch_spread p1 (fun hM hz => ?_) (fun hz => ?_) (fun hM hz => ?_)
  · obtain ⟨f1, f2, f3, f4, f5, f6⟩ := ch_If h p1 p3 hz
    refine ⟨f1, ?_, ?_, ?_⟩
    · rw [f4]
      exact ch_W8 gw tw e p
    · rw [f5]
      decide
    · rw [f6]
      rcases (ch_M8 hg ht (ch_x p)).1 with m | m
      · exact absurd m hM
      · exact m
  · exact nm_r (nI_1 i) (hw (i + 1) q a3 a4 a5 a6 ⟨by omega, ch_I0 h p1 p2 hz⟩ (by omega))
  · exact nm_r (nI_1 i) (hw (i + 1) (q + 1) _ _ _ _ ⟨by omega, ch_I1 h z p1 p2 p3 hz⟩ (by omega))
theorem ch_77 {post : St2 → Prop} {J15 : Int32 → Int32 → Int32 → Int32 → Int32 → Int32 → Int32 → Int32 → Int32 → Int32 → (Nat → Int32) → (Nat → Int32) → (Nat → Int32) → (Nat → Int32) → (Nat → Int32) → (Nat → Int32) → Prop} {gw tw e bA bB bT bS rd x3 : Int32} {a1 a2 a3 a4 a5 a6 : Nat → Int32} {i q : Nat} (hi : i < 432) (hq : q < 432) (hx : x3.toInt8.toInt32 = x3)
    (h0 : x3 = 0 → J15 (nI (i + 1)) gw tw e bA bB bT bS rd (nI q) a1 a2 a3 a4 a5 a6)
    (h1 : ¬ x3 = 0 → J15 (nI (i + 1)) gw tw e bA bB bT bS rd (nI (q + 1)) a1 a2 (upd a3 i x3) (upd a4 i 0) a5 (upd a6 q (nI i))) :
    wX_prepare_77 post J15 (nI i) x3 gw tw e bA bB bT bS rd (nI q) a1 a2 a3 a4 a5 a6 :=
  br_c (fun z => nm_r (nI_1 i) (h0 z)) (fun z => ch_settle hi hq hx (by decide) (nm_r (nI_1 i) (h1 z)))
/-- the first pass, and behind it the second -/
theorem ch_15 {post : St2 → Prop} {gw tw e bA bB bT bS rd : Int32} {a3 a4 a5 a6 : Nat → Int32} (hg : gw = 0 ∨ gw = 1) (ht : tw = 0 ∨ tw = 1)
    (H : ∀ q a3 a4 a5 a6, ch_R (ch_M gw tw) (ch_W gw tw e) a3 a4 → post (gw, tw, e, bA, bB, bT, bS, 1, nI q, (fun _ => 0), (fun _ => 0), a3, a4, a5, a6)) :
    ∃ n, wX_prepare_15 post n 0 gw tw e bA bB bT bS rd 0 (fun _ => 0) (fun _ => 0) a3 a4 a5 a6 := by
  refine pk_loop (σ := Nat × (Nat → Int32) × (Nat → Int32) × (Nat → Int32) × (Nat → Int32)) (fun n i s => wX_prepare_15 post n (nI i) gw tw e bA bB bT bS rd (nI s.1) (fun _ => 0) (fun _ => 0) s.2.1 s.2.2.1 s.2.2.2.1 s.2.2.2.2) (fun i s => ch_J (ch_M gw tw) (ch_W gw tw e) i s.1 s.2.1 s.2.2.1 s.2.2.2.1 s.2.2.2.2) 432 0 (0, a3, a4, a5, a6) (by omega) (ch_Js a3 a4 a5 a6) ?_ ?_
  · rintro n ⟨q, b3, b4, b5, b6⟩ h
    exact pk_le 432 432 (fun _ => ch_96 hg ht (ch_JI h) H) (fun z => absurd z (by omega))
  · rintro n i ⟨q, b3, b4, b5, b6⟩ hi h hw
    have hq : q ≤ i := h.1
    have h8 := (ch_M8 hg ht i).2
    have T : ∀ x3, x3 = ch_W gw tw e i → wX_prepare_77 post (wX_prepare_15 post n) (nI i) x3 gw tw e bA bB bT bS rd (nI q) (fun _ => 0) (fun _ => 0) (upd b3 i 0) (upd b4 i 0) (upd b5 i (ch_M gw tw i)) b6 := by
      intro x3 hx3
      subst hx3
      exact ch_77 hi (by omega) (ch_W8 gw tw e i) (fun z => hw (q, upd b3 i 0, upd b4 i 0, upd b5 i (ch_M gw tw i), b6) (ch_J0 h z)) (fun z => hw (q + 1, upd (upd b3 i 0) i (ch_W gw tw e i), upd (upd b4 i 0) i 0, upd b5 i (ch_M gw tw i), upd b6 q (nI i)) (ch_J1 h z))
    refine pk_le 432 i (fun z => absurd z (by omega)) (fun _ => ⟨pk_in i 432 hi, nm_r (ch_u hi rfl) ⟨pk_in i 432 hi, nm_r (ch_u hi rfl) (ch_mc hi hg ht ⟨pk_in i 432 hi, nm_r (ch_u hi h8) (ch_over hi ?_)⟩)⟩⟩)
    refine br_c (fun z => br_c (fun z2 => ⟨by decide, pk_eq (i % 2) 1 (fun z3 => ?_) (fun z3 => ?_) (ch_par hi)⟩) (fun z2 => ?_)) (fun z => ?_)
    · exact T 1 ((if_pos z).trans ((if_pos z2).trans (if_pos z3))).symm
    · exact T 2 ((if_pos z).trans ((if_pos z2).trans (if_neg z3))).symm
    · exact T _ (z.trans ((if_pos z).trans (if_neg z2)).symm)
    · exact T _ (if_neg z).symm
theorem ch_prep {post : St2 → Prop} {gw tw e bA bB bT bS q : Int32} {a3 a4 a5 a6 : Nat → Int32} (hg : gw = 0 ∨ gw = 1) (ht : tw = 0 ∨ tw = 1)
    (H : ∀ q a3 a4 a5 a6, ch_R (ch_M gw tw) (ch_W gw tw e) a3 a4 → post (gw, tw, e, bA, bB, bT, bS, 1, nI q, (fun _ => 0), (fun _ => 0), a3, a4, a5, a6)) :
    wpX_prepare post (gw, tw, e, bA, bB, bT, bS, 0, q, (fun _ => 0), (fun _ => 0), a3, a4, a5, a6) :=
  br_t rfl (ch_15 hg ht H)
end
section
/-- off (and the law's bad): 0 if the place is on the map -/
def ch_o (x : Int32) : Int32 := if x < 0 then 1 else if x ≤ 5 then 0 else 1
theorem ch_oE {x : Int32} (h : ch_o x = 0) : ∃ a : Nat, a < 6 ∧ x = nI a := by
  unfold ch_o at h
  by_cases z : x < 0
  · rw [if_pos z] at h
    exact absurd h (by decide)
  · rw [if_neg z] at h
    by_cases z2 : x ≤ 5
    · obtain ⟨j, h1, h2⟩ := nI_of2 (M := 5) (n := 5) (by decide) z z2
      exact ⟨j, by omega, h2⟩
    · rw [if_neg z2] at h
      exact absurd h (by decide)
theorem ch_o6 : ∀ a, a < 6 → ch_o (nI a) = 0 := by decide +kernel
theorem ch_off {post : Int32 → Prop} {u : St0} {x : Int32} (h : post (ch_o x)) : wpX_off post u x := by
  refine br_c (fun z => ?_) (fun z => br_c (fun z2 => ?_) (fun z2 => ?_))
  · have e : ch_o x = 1 := if_pos z
    rw [e] at h
    exact h
  · have e : ch_o x = 0 := (if_neg z).trans (if_pos z2)
    rw [e] at h
    exact h
  · have e : ch_o x = 1 := (if_neg z).trans (if_neg z2)
    rw [e] at h
    exact h
theorem ch_bad {post : Int32 → Prop} {u : St0} {x : Int32} (h : post (ch_o x)) : wpL_bad post u x := by
  refine br_c (fun z => ?_) (fun z => br_c (fun z2 => ?_) (fun z2 => ?_))
  · have e : ch_o x = 1 := if_pos z
    rw [e] at h
    exact h
  · have e : ch_o x = 0 := (if_neg z).trans (if_pos z2)
    rw [e] at h
    exact h
  · have e : ch_o x = 1 := (if_neg z).trans (if_neg z2)
    rw [e] at h
    exact h
theorem ch_init {post : St2 → Prop} {x : Int32}
    (h : ∀ gw tw, (gw = 0 ∧ x &&& 1 = 0) ∨ (gw = 1 ∧ ¬ x &&& 1 = 0) → (tw = 0 ∧ x &&& 2 = 0) ∨ (tw = 1 ∧ ¬ x &&& 2 = 0) → post (gw, tw, 0, 0, 1, 5, 0, 0, 0, (fun _ => 0), (fun _ => 0), (fun _ => 0), (fun _ => 0), (fun _ => 0), (fun _ => 0))) :
    wpX_init post 6 1740 (0, 0, 0, 0, 0, 0, 0, 0, 0) x := by
  refine ⟨by decide, by decide, by decide, by decide, by decide, by decide, by decide, by decide, by decide, by decide, by decide, by decide, br_c (fun z => ?_) (fun z => ?_)⟩
  · exact ⟨by decide, by decide, br_c (fun z2 => ⟨by decide, by decide, h 0 0 (Or.inl ⟨rfl, z⟩) (Or.inl ⟨rfl, z2⟩)⟩) (fun z2 => ⟨by decide, by decide, h 0 1 (Or.inl ⟨rfl, z⟩) (Or.inr ⟨rfl, z2⟩)⟩)⟩
  · exact ⟨by decide, by decide, br_c (fun z2 => ⟨by decide, by decide, h 1 0 (Or.inr ⟨rfl, z⟩) (Or.inl ⟨rfl, z2⟩)⟩) (fun z2 => ⟨by decide, by decide, h 1 1 (Or.inr ⟨rfl, z⟩) (Or.inr ⟨rfl, z2⟩)⟩)⟩
theorem ch_bit : ∀ x, x < 6 → ∀ t, t < 6 → (((((0 : Int32) &&& (((1 : Int32) <<< (nI x &&& 31)) ^^^ (-1))) ||| ((1 : Int32) <<< (nI x &&& 31))) >>> (nI t &&& 31)) &&& 1 = 1 ↔ nI t = nI x) := by decide +kernel
theorem ch_exit {post : Int32 → St2 → Prop} {gw tw bA bB bT bS q x : Int32} {a1 a2 a3 a4 a5 a6 : Nat → Int32}
    (h : ∀ e r, (∀ t, t < 6 → ((e >>> (nI t &&& 31)) &&& 1 = 1 ↔ nI t = x)) → post r (gw, tw, e, bA, bB, bT, bS, 0, q, a1, a2, a3, a4, a5, a6)) :
    wpX_exit post (gw, tw, 0, bA, bB, bT, bS, 0, q, a1, a2, a3, a4, a5, a6) x 1 := by
  unfold wpX_exit
  refine ch_off (br_c (fun z => ?_) (fun z => ?_))
  · obtain ⟨k, k1, k2⟩ := ch_oE z
    subst k2
    exact nm_e (nm_e (br_f (by decide) (nm_e (h _ _ (ch_bit k k1)))))
  · exact h 0 (-1) (fun t ht => ⟨fun y => absurd y (ch_nz ht), fun y => absurd (show ch_o x = 0 from by rw [← y]; exact ch_o6 t ht) z⟩)
/-- a position's number -/
def ch_n (a b t s : Nat) : Nat := ((a * 6 + b) * 6 + t) * 2 + s
theorem ch_nlt {a b t s : Nat} (ha : a < 6) (hb : b < 6) (ht : t < 6) (hs : s < 2) : ch_n a b t s < 432 := by
  unfold ch_n
  omega
theorem ch_num {post : Int32 → Prop} {u : St0} {a b t s : Nat} {x : Int32} (hs : s < 2) (hx : x = nI s) (h : post (nI (ch_n a b t s))) : wpX_number post u (nI a) (nI b) (nI t) x := by
  have e : ((((nI a * 6) + nI b) * 6) + nI t) * 2 = nI (((a * 6 + b) * 6 + t) * 2) := by
    rw [show (6 : Int32) = nI 6 from rfl, show (2 : Int32) = nI 2 from rfl, pk_mul, nI_add, pk_mul, nI_add, pk_mul]
  subst hx
  refine pk_eq s 0 (fun z => ?_) (fun z => ?_)
  · subst z
    rw [e, show (0 : Int32) = nI 0 from rfl, nI_add]
    exact h
  · have z1 : s = 1 := by omega
    subst z1
    rw [e, nI_1]
    exact h
theorem ch_outB {post : Int32 → St2 → Prop} {f0 f1 f2 f3 f4 f5 f6 f7 f8 : Int32} {a1 a2 a3 a4 a5 a6 : Nat → Int32} {x y z w : Int32} (hb : ¬ (ch_o x = 0 ∧ ch_o y = 0 ∧ ch_o z = 0)) (h : post (-1) (f0, f1, f2, f3, f4, f5, f6, f7, f8, a1, a2, a3, a4, a5, a6)) :
    wpX_outcome post (f0, f1, f2, f3, f4, f5, f6, f7, f8, a1, a2, a3, a4, a5, a6) x y z w := by
  unfold wpX_outcome
  exact ch_off (br_c (fun z0 => ch_off (br_c (fun z1 => ch_off (br_c (fun z2 => absurd ⟨z0, z1, z2⟩ hb) (fun _ => h))) (fun _ => h))) (fun _ => h))
theorem ch_lenB {post : Int32 → St2 → Prop} {f0 f1 f2 f3 f4 f5 f6 f7 f8 : Int32} {a1 a2 a3 a4 a5 a6 : Nat → Int32} {x y z w : Int32} (hb : ¬ (ch_o x = 0 ∧ ch_o y = 0 ∧ ch_o z = 0)) (h : post (-1) (f0, f1, f2, f3, f4, f5, f6, f7, f8, a1, a2, a3, a4, a5, a6)) :
    wpX_length post (f0, f1, f2, f3, f4, f5, f6, f7, f8, a1, a2, a3, a4, a5, a6) x y z w := by
  unfold wpX_length
  exact ch_off (br_c (fun z0 => ch_off (br_c (fun z1 => ch_off (br_c (fun z2 => absurd ⟨z0, z1, z2⟩ hb) (fun _ => h))) (fun _ => h))) (fun _ => h))
/-- what length answers -/
def ch_l (a3 a4 : Nat → Int32) (p : Nat) : Int32 := if a3 p = 0 then -3 else a4 p
/-- outcome before the table is ready -/
theorem ch_out0 {post : Int32 → St2 → Prop} {gw tw e bA bB bT bS q w : Int32} {a3 a4 a5 a6 : Nat → Int32} {a b t s : Nat} (ha : a < 6) (hb : b < 6) (ht : t < 6) (hs : s < 2) (hw : w = nI s) (hg : gw = 0 ∨ gw = 1) (hv : tw = 0 ∨ tw = 1)
    (H : ∀ q a3 a4 a5 a6, ch_R (ch_M gw tw) (ch_W gw tw e) a3 a4 → post (a3 (ch_n a b t s)) (gw, tw, e, bA, bB, bT, bS, 1, nI q, (fun _ => 0), (fun _ => 0), a3, a4, a5, a6)) :
    wpX_outcome post (gw, tw, e, bA, bB, bT, bS, 0, q, (fun _ => 0), (fun _ => 0), a3, a4, a5, a6) (nI a) (nI b) (nI t) w := by
  have hn := ch_nlt ha hb ht hs
  have hc : (nI (ch_n a b t s)).toNatClampNeg = ch_n a b t s := nI_clamp (by omega)
  unfold wpX_outcome
  refine ch_off (br_t (ch_o6 a ha) (ch_off (br_t (ch_o6 b hb) (ch_off (br_t (ch_o6 t ht) (ch_prep hg hv (fun q b3 b4 b5 b6 hR => ch_num hs hw ⟨pk_in _ 432 hn, ?_⟩)))))))
  rw [hc]
  exact H q b3 b4 b5 b6 hR
/-- outcome of a table that is ready -/
theorem ch_out1 {post : Int32 → St2 → Prop} {gw tw e bA bB bT bS q w : Int32} {a1 a2 a3 a4 a5 a6 : Nat → Int32} {a b t s : Nat} (ha : a < 6) (hb : b < 6) (ht : t < 6) (hs : s < 2) (hw : w = nI s)
    (H : post (a3 (ch_n a b t s)) (gw, tw, e, bA, bB, bT, bS, 1, q, a1, a2, a3, a4, a5, a6)) :
    wpX_outcome post (gw, tw, e, bA, bB, bT, bS, 1, q, a1, a2, a3, a4, a5, a6) (nI a) (nI b) (nI t) w := by
  have hn := ch_nlt ha hb ht hs
  have hc : (nI (ch_n a b t s)).toNatClampNeg = ch_n a b t s := nI_clamp (by omega)
  unfold wpX_outcome
  refine ch_off (br_t (ch_o6 a ha) (ch_off (br_t (ch_o6 b hb) (ch_off (br_t (ch_o6 t ht) (br_f (by decide) (ch_num hs hw ⟨pk_in _ 432 hn, ?_⟩)))))))
  rw [hc]
  exact H
/-- length of a table that is ready -/
theorem ch_len1 {post : Int32 → St2 → Prop} {gw tw e bA bB bT bS q w : Int32} {a1 a2 a3 a4 a5 a6 : Nat → Int32} {a b t s : Nat} (ha : a < 6) (hb : b < 6) (ht : t < 6) (hs : s < 2) (hw : w = nI s)
    (H : post (ch_l a3 a4 (ch_n a b t s)) (gw, tw, e, bA, bB, bT, bS, 1, q, a1, a2, a3, a4, a5, a6)) :
    wpX_length post (gw, tw, e, bA, bB, bT, bS, 1, q, a1, a2, a3, a4, a5, a6) (nI a) (nI b) (nI t) w := by
  have hn := ch_nlt ha hb ht hs
  have hc : (nI (ch_n a b t s)).toNatClampNeg = ch_n a b t s := nI_clamp (by omega)
  unfold wpX_length
  refine ch_off (br_t (ch_o6 a ha) (ch_off (br_t (ch_o6 b hb) (ch_off (br_t (ch_o6 t ht) (br_f (by decide) (ch_num hs hw ⟨pk_in _ 432 hn, br_c (fun z => ?_) (fun z => ⟨pk_in _ 432 hn, ?_⟩)⟩)))))))
  · rw [hc] at z
    have el : ch_l a3 a4 (ch_n a b t s) = -3 := if_pos z
    rw [el] at H
    exact H
  · rw [hc] at z ⊢
    have el : ch_l a3 a4 (ch_n a b t s) = a4 (ch_n a b t s) := if_neg z
    rw [el] at H
    exact H
end
section
theorem ch_div {a b t s : Nat} (ha : a < 6) (hb : b < 6) (ht : t < 6) (hs : s < 2) : ch_n a b t s / 72 = a ∧ ch_n a b t s / 12 % 6 = b ∧ ch_n a b t s / 2 % 6 = t ∧ ch_n a b t s % 2 = s := by
  unfold ch_n
  refine ⟨?_, ?_, ?_, ?_⟩ <;> omega
theorem ch_ovn {e : Int32} {a b t s : Nat} (ha : a < 6) (hb : b < 6) (ht : t < 6) (hs : s < 2) : ch_ov e (ch_n a b t s) = if t = a then 1 else if t = b then 1 else if (e >>> (nI t &&& 31)) &&& 1 = 1 then 2 else 0 := by
  obtain ⟨d1, d2, d3, d4⟩ := ch_div ha hb ht hs
  unfold ch_ov
  rw [d1, d2, d3]
/-- a position that is over -/
theorem ch_done {gw tw e v : Int32} {a3 a4 : Nat → Int32} {p : Nat} (hR : ch_R (ch_M gw tw) (ch_W gw tw e) a3 a4) (hp : p < 432) (hv : ¬ v = 0) (ho : ch_ov e p = v) : a3 p = v ∧ ch_l a3 a4 p = 0 := by
  have eW : ch_W gw tw e p = v := (if_neg (by rw [ho]; exact hv)).trans ho
  have t := (hR p hp).1 (by rw [eW]; exact hv)
  rw [eW] at t
  have nz : ¬ a3 p = 0 := by
    rw [t.1]
    exact hv
  exact ⟨t.1, (if_neg nz).trans t.2⟩
/-- a position without a move -/
theorem ch_stuck {gw tw e v : Int32} {a3 a4 : Nat → Int32} {p : Nat} (hR : ch_R (ch_M gw tw) (ch_W gw tw e) a3 a4) (hp : p < 432) (hv : ¬ v = 0) (ho : ch_ov e p = 0) (hM : ch_M gw tw p = 0) (hd : (if p % 2 = 1 then (1 : Int32) else 2) = v) : ch_W gw tw e p = v ∧ a3 p = v ∧ ch_l a3 a4 p = 0 := by
  have eW : ch_W gw tw e p = v := (if_pos ho).trans ((if_pos hM).trans hd)
  have t := (hR p hp).1 (by rw [eW]; exact hv)
  rw [eW] at t
  have nz : ¬ a3 p = 0 := by
    rw [t.1]
    exact hv
  exact ⟨eW, t.1, (if_neg nz).trans t.2⟩
theorem ch_W0 {gw tw e : Int32} {p : Nat} (ho : ch_ov e p = 0) (hM : ¬ ch_M gw tw p = 0) : ch_W gw tw e p = 0 := (if_pos ho).trans (if_neg hM)
/-- a position whose one move is a wait, into a position that is decided -/
theorem ch_waits {gw tw e v : Int32} {a3 a4 : Nat → Int32} {p : Nat} (hR : ch_R (ch_M gw tw) (ch_W gw tw e) a3 a4) (hp : p < 432) (hv : ¬ v = 0) (ho : ch_ov e p = 0) (hM : ¬ ch_M gw tw p = 0) (hx : ch_W gw tw e (ch_x p) = v) : a3 p = v ∧ ch_l a3 a4 p = 1 := by
  have t := (hR p hp).2.1 (ch_W0 ho hM) (by rw [hx]; exact hv) hM
  rw [hx] at t
  have nz : ¬ a3 p = 0 := by
    rw [t.1]
    exact hv
  exact ⟨t.1, (if_neg nz).trans t.2⟩
/-- a position whose one move is a wait, into another such -/
theorem ch_both {gw tw e : Int32} {a3 a4 : Nat → Int32} {p : Nat} (hR : ch_R (ch_M gw tw) (ch_W gw tw e) a3 a4) (hp : p < 432) (ho : ch_ov e p = 0) (hM : ¬ ch_M gw tw p = 0) (hx : ch_W gw tw e (ch_x p) = 0) : a3 p = 0 ∧ ch_l a3 a4 p = -3 := by
  have t := (hR p hp).2.2 (ch_W0 ho hM) hx
  exact ⟨t, if_pos t⟩
theorem ch_t84 {mc ms kc ks : Nat} : wL_lawOf_84 (fun r _ => r = 1) mc ms (-1) (-1) (-1) (-1) kc ks := br_t rfl (br_t rfl (br_t rfl (br_t rfl rfl)))
theorem ch_t127 {mc ms kc ks : Nat} {g gl h hl : Int32} (k : g = 1 ∧ gl = 0) (k2 : h = 1 ∧ hl = 0) : wL_lawOf_127 (fun r _ => r = 1) mc ms g gl h hl kc ks := by
  obtain ⟨rfl, rfl⟩ := k
  obtain ⟨rfl, rfl⟩ := k2
  exact br_t rfl (br_t rfl (br_t rfl (br_t rfl rfl)))
theorem ch_t11 {mc ms kc ks : Nat} {g gl h hl : Int32} (k : g = 0 ∧ gl = -3) (k2 : h = 0 ∧ hl = -3) : wL_lawOf_215 (fun r _ => r = 1) mc ms g gl h hl 1 1 kc ks := by
  obtain ⟨rfl, rfl⟩ := k
  obtain ⟨rfl, rfl⟩ := k2
  exact br_f (by decide) (br_f (by decide) (br_t rfl (br_t rfl (br_t rfl (br_t rfl rfl)))))
theorem ch_t00 {mc ms kc ks : Nat} {g gl h hl : Int32} (k : g = 2 ∧ gl = 0) (k2 : h = 1 ∧ hl = 0) : wL_lawOf_215 (fun r _ => r = 1) mc ms g gl h hl 0 0 kc ks := by
  obtain ⟨rfl, rfl⟩ := k
  obtain ⟨rfl, rfl⟩ := k2
  have t312 : wL_lawOf_312 (fun r _ => r = 1) mc ms 1 0 0 kc ks := br_t rfl rfl
  have t295 : wL_lawOf_295 (fun r _ => r = 1) mc ms 2 0 1 0 0 0 kc ks := br_t rfl t312
  have t277 : wL_lawOf_277 (fun r _ => r = 1) mc ms 2 0 1 0 0 0 kc ks := br_t rfl (br_t rfl (br_t rfl t295))
  have t259 : wL_lawOf_259 (fun r _ => r = 1) mc ms 2 0 1 0 0 0 kc ks := br_t rfl (br_t rfl (br_t rfl t277))
  exact br_t rfl t259
theorem ch_t10 {mc ms kc ks : Nat} {g gl h hl : Int32} (k : g = 1 ∧ gl = 1) (k2 : h = 1 ∧ hl = 0) : wL_lawOf_215 (fun r _ => r = 1) mc ms g gl h hl 1 0 kc ks := by
  obtain ⟨rfl, rfl⟩ := k
  obtain ⟨rfl, rfl⟩ := k2
  have t312 : wL_lawOf_312 (fun r _ => r = 1) mc ms 1 0 0 kc ks := br_t rfl rfl
  have t295 : wL_lawOf_295 (fun r _ => r = 1) mc ms 1 1 1 0 1 0 kc ks := br_f (by decide) (br_t rfl (br_t rfl t312))
  have t277 : wL_lawOf_277 (fun r _ => r = 1) mc ms 1 1 1 0 1 0 kc ks := br_t rfl (br_t rfl (br_t rfl t295))
  have t259 : wL_lawOf_259 (fun r _ => r = 1) mc ms 1 1 1 0 1 0 kc ks := br_f (by decide) t277
  exact br_f (by decide) (br_t rfl t259)
theorem ch_t01 {mc ms kc ks : Nat} {g gl h hl : Int32} (k : g = 2 ∧ gl = 0) (k2 : h = 2 ∧ hl = 1) : wL_lawOf_215 (fun r _ => r = 1) mc ms g gl h hl 0 1 kc ks := by
  obtain ⟨rfl, rfl⟩ := k
  obtain ⟨rfl, rfl⟩ := k2
  have t312 : wL_lawOf_312 (fun r _ => r = 1) mc ms 2 1 1 kc ks := br_f (by decide) (br_t rfl (br_t rfl rfl))
  have t295 : wL_lawOf_295 (fun r _ => r = 1) mc ms 2 0 2 1 0 1 kc ks := br_t rfl t312
  have t277 : wL_lawOf_277 (fun r _ => r = 1) mc ms 2 0 2 1 0 1 kc ks := br_f (by decide) t295
  have t259 : wL_lawOf_259 (fun r _ => r = 1) mc ms 2 0 2 1 0 1 kc ks := br_t rfl (br_t rfl (br_t rfl t277))
  exact br_t rfl t259
theorem ch_2 {P Q1 Q2 Q3 Q4 : Prop} {g gl h hl : Int32} (k : g = 2 ∧ gl = 0) (k2 : h = 2 ∧ hl = 0) (hp : P) : (g = 2 → ((gl = 0 → ((h = g → ((hl = 0 → P) ∧ (¬ hl = 0 → Q1))) ∧ (¬ h = g → Q2))) ∧ (¬ gl = 0 → Q3))) ∧ (¬ g = 2 → Q4) := by
  obtain ⟨rfl, rfl⟩ := k
  obtain ⟨rfl, rfl⟩ := k2
  exact br_t rfl (br_t rfl (br_t rfl (br_t rfl hp)))
theorem ch_law (x0 x1 x2 x3 x4 : Int32) : wpL_lawOf (fun r _ => r = 1) 350 5600 () x0 x1 x2 x3 x4 := by
  refine ⟨by decide, by decide, 6, 1740, by decide, by decide, ch_init (fun gw tw hg ht => ch_exit (fun e r hE => ?_))⟩
  by_cases hb : ch_o x1 = 0 ∧ ch_o x2 = 0 ∧ ch_o x3 = 0
  · obtain ⟨b1, b2, b3⟩ := hb
    obtain ⟨a, ha, rfl⟩ := ch_oE b1
    obtain ⟨b, hb, rfl⟩ := ch_oE b2
    obtain ⟨t, hc, rfl⟩ := ch_oE b3
    have g01 : gw = 0 ∨ gw = 1 := hg.elim (fun z => Or.inl z.1) (fun z => Or.inr z.1)
    have t01 : tw = 0 ∨ tw = 1 := ht.elim (fun z => Or.inl z.1) (fun z => Or.inr z.1)
    refine ch_out0 (s := 0) ha hb hc (by omega) rfl g01 t01 (fun q w3 w4 w5 w6 hR => ?_)
    refine ch_len1 (s := 0) ha hb hc (by omega) rfl (ch_out1 (s := 1) ha hb hc (by omega) rfl (ch_len1 (s := 1) ha hb hc (by omega) rfl ?_))
    refine ch_bad (br_t b1 (ch_bad (br_t b2 (ch_bad (br_t b3 ?_)))))
    have n0 := ch_nlt ha hb hc (show 0 < 2 by omega)
    have n1 := ch_nlt ha hb hc (show 1 < 2 by omega)
    have o0 := ch_ovn (e := e) ha hb hc (show 0 < 2 by omega)
    have o1 := ch_ovn (e := e) ha hb hc (show 1 < 2 by omega)
    refine pk_eq t a (fun z => ?_) (fun z => pk_eq t b (fun z2 => ?_) (fun z2 => br_c (fun z3 => ?_) (fun z3 => ?_)))
    · rw [if_pos z] at o0 o1
      exact ch_t127 (ch_done hR n0 (by decide) o0) (ch_done hR n1 (by decide) o1)
    · rw [if_neg z, if_pos z2] at o0 o1
      exact ch_t127 (ch_done hR n0 (by decide) o0) (ch_done hR n1 (by decide) o1)
    · rw [if_neg z, if_neg z2, if_pos ((hE t hc).mpr z3)] at o0 o1
      exact ch_2 (ch_done hR n0 (by decide) o0) (ch_done hR n1 (by decide) o1) rfl
    · rw [if_neg z, if_neg z2, if_neg (fun y => z3 ((hE t hc).mp y))] at o0 o1
      have p0 := (ch_div ha hb hc (show 0 < 2 by omega)).2.2.2
      have p1 := (ch_div ha hb hc (show 1 < 2 by omega)).2.2.2
      have M0 : ch_M gw tw (ch_n a b t 0) = gw := if_neg (by omega)
      have M1 : ch_M gw tw (ch_n a b t 1) = tw := if_pos p1
      have X0 : ch_x (ch_n a b t 0) = ch_n a b t 1 := if_pos p0
      have X1 : ch_x (ch_n a b t 1) = ch_n a b t 0 := by rw [← X0, ch_xx]
      rcases hg with ⟨rfl, zg⟩ | ⟨rfl, zg⟩
      · have s0 := ch_stuck (v := 2) hR n0 (by decide) o0 M0 (if_neg (by omega))
        rcases ht with ⟨rfl, zt⟩ | ⟨rfl, zt⟩
        · have s1 := ch_stuck (v := 1) hR n1 (by decide) o1 M1 (if_pos p1)
          exact br_t zg (br_t zt (ch_t00 s0.2 s1.2))
        · have s1 := ch_waits (v := 2) hR n1 (by decide) o1 (by rw [M1]; decide) (by rw [X1]; exact s0.1)
          exact br_t zg (br_f zt (ch_t01 s0.2 s1))
      · rcases ht with ⟨rfl, zt⟩ | ⟨rfl, zt⟩
        · have s1 := ch_stuck (v := 1) hR n1 (by decide) o1 M1 (if_pos p1)
          have s0 := ch_waits (v := 1) hR n0 (by decide) o0 (by rw [M0]; decide) (by rw [X0]; exact s1.1)
          exact br_f zg (br_t zt (ch_t10 s0 s1.2))
        · have m0 : ¬ ch_M 1 1 (ch_n a b t 0) = 0 := by rw [M0]; decide
          have m1 : ¬ ch_M 1 1 (ch_n a b t 1) = 0 := by rw [M1]; decide
          have s0 := ch_both hR n0 o0 m0 (by rw [X0]; exact ch_W0 o1 m1)
          have s1 := ch_both hR n1 o1 m1 (by rw [X1]; exact ch_W0 o0 m0)
          exact br_f zg (br_f zt (ch_t11 s0 s1))
  · refine ch_outB hb (ch_lenB hb (ch_outB hb (ch_lenB hb ?_)))
    exact ch_bad (br_c (fun z1 => ch_bad (br_c (fun z2 => ch_bad (br_c (fun z3 => absurd ⟨z1, z2, z3⟩ hb) (fun _ => ch_t84))) (fun _ => ch_t84))) (fun _ => ch_t84))
theorem ch_cell {post : Int32 → Prop} {L : Nat} {xs : Nat → Int32} {u : St0} {x : Int32} (k : Nat) (hL : L ≤ 5) (hk : k < 5) (hx : x = nI k) (h : ∀ r, post r) : wpL_cellAt post L xs u x := by
  subst hx
  exact pk_le L k (fun _ => h _) (fun z => ⟨pk_in k L z, h _⟩)
theorem i_vc (xs : Nat → Int32) (L : Nat) (hL : L ≤ 5) : wpL_law (fun r => r = 1) L xs :=
  ch_cell 0 hL (by omega) rfl (fun r1 => ch_cell 1 hL (by omega) rfl (fun r2 => ch_cell 2 hL (by omega) rfl (fun r3 => ch_cell 3 hL (by omega) rfl (fun r4 => ch_cell 4 hL (by omega) rfl (fun r5 => ⟨350, 5600, by decide, by decide, ch_law r1 r2 r3 r4 r5⟩)))))
end
