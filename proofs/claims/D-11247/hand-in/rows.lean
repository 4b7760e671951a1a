section
/-! ===== pure rows ===== -/
/-- the check value of a sector's content -/
def ig_ck (s v : Int32) : Int32 := ((v ^^^ 1431655765) * 1540483477) + (s * 668265263)
theorem ig_mulI {x y : Int32} (h : x * 1540483477 = y * 1540483477) : x = y := by
  have e : ∀ z : Int32, z * 1540483477 * 3852147133 = z := by
    intro z
    rw [Int32.mul_assoc, show (1540483477 : Int32) * 3852147133 = 1 by decide, Int32.mul_one]
  rw [← e x, ← e y, h]
theorem ig_ckI {s x y : Int32} (h : ig_ck s x = ig_ck s y) : x = y := by
  unfold ig_ck at h
  exact (Int32.xor_left_inj _).mp (ig_mulI ((Int32.add_left_inj _).mp h))
/-- a sum of the first n values -/
def ig_sum (f : Nat → Int32) : Nat → Int32
  | 0 => 0
  | n + 1 => ig_sum f n + f n
theorem ig_ac (p q : Int32) : p + q = q + p := Int32.add_comm p q
/-- two marks: p at a, q at b -/
theorem ig_sum2 {f : Nat → Int32} {a b : Nat} {p q : Int32} : ∀ n, (∀ i, i < n → f i = (if i = a then p else 0) + (if i = b then q else 0)) → ig_sum f n = (if a < n then p else 0) + (if b < n then q else 0) := by
  intro n
  induction n with
  | zero =>
    intro _
    rw [if_neg (by omega), if_neg (by omega)]
    rfl
  | succ n ih =>
    intro h
    show ig_sum f n + f n = _
    rw [ih (fun i hi => h i (by omega)), h n (by omega)]
    have k : ∀ (c : Nat) (r : Int32), (if c < n then r else 0) + (if n = c then r else 0) = (if c < n + 1 then r else 0) := by
      intro c r
      by_cases h1 : c < n
      · rw [if_pos h1, if_neg (show ¬ n = c by omega), if_pos (by omega), Int32.add_zero]
      · by_cases h2 : n = c
        · rw [if_neg h1, if_pos h2, if_pos (by omega), Int32.zero_add]
        · rw [if_neg h1, if_neg h2, if_neg (by omega), Int32.add_zero]
    rw [← k a p, ← k b q]
    generalize (if a < n then p else 0) = u1
    generalize (if b < n then q else 0) = u2
    generalize (if n = a then p else 0) = u3
    generalize (if n = b then q else 0) = u4
    rw [Int32.add_assoc, Int32.add_assoc, ← Int32.add_assoc u2, ← Int32.add_assoc u3, ig_ac u2 u3]
theorem ig_mod (x : Int32) : ∃ a : Nat, a < 12 ∧ (x &&& 1023) - (x &&& 1023) / 12 * 12 = nI a := by
  obtain ⟨j, hj, e⟩ := pk_andE x (m := 1023) 10 (by decide)
  rw [e]
  exact ⟨j % 12, Nat.mod_lt _ (by omega), pk_rem (d := 12) (by omega) (by omega) (by omega)⟩
theorem ig_fill1 {f s : Nat → Int32} {i k : Nat} {x : Int32} (hk : k = i) (h : ∀ j, j < i → s j = f j) (hx : x = f i) : ∀ j, j < i + 1 → upd s k x j = f j := by
  intro j hj
  rw [hk]
  by_cases e : j = i
  · rw [e, pk_us, hx]
  · rw [pk_un e]
    exact h j (by omega)
/-- entries put in order: places sec 0, sec 1 .. take val 0, val 1 .. -/
def ig_put (h : Nat → Int32) (sec : Nat → Nat) (val : Nat → Int32) : Nat → (Nat → Int32)
  | 0 => h
  | n + 1 => upd (ig_put h sec val n) (sec n) (val n)
/-! ===== the law's cells ===== -/
theorem ig_cell {post : Int32 → Prop} {L : Nat} {xs : Nat → Int32} (p : Nat) (hp : p < 6) (hL : L ≤ 6) (h : ∀ r, post r) : wpL_cellAt post L xs () (nI p) :=
  pk_le L p (fun _ => h _) (fun z => ⟨pk_in p L z, h _⟩)
end
section
/-! ===== methods that walk no journal ===== -/
theorem ig_chk {post : Int32 → Prop} {p0 p1 : Int32} (h : post (ig_ck p0 p1)) : wpX_checkOf post () p0 p1 := h
section
variable {a1 a2 a3 a4 a5 a6 a7 a8 a9 a10 : Nat → Int32} {hf ns wt md : Int32}
theorem ig_111 {post : St2 → Prop} {mc ms kc ks : Nat} (H : ∀ sn, post (hf, ns, wt, md, a1, a2, sn, a4, a5, a6, a7, a8, a9, a10)) : ∃ n, wX_init_111 post mc ms kc ks hf ns wt md n 0 a1 a2 a3 a4 a5 a6 a7 a8 a9 a10 :=
  pk_loop (fun n i s => wX_init_111 post mc ms kc ks hf ns wt md n (nI i) a1 a2 s a4 a5 a6 a7 a8 a9 a10) (fun _ _ => True) 8 0 a3 (by omega) trivial
    (fun n s _ => pk_le 8 8 (fun _ => H s) (fun z => absurd z (by omega)))
    (fun n i s hi _ hw => pk_le 8 i (fun z => absurd z (by omega)) (fun _ => ⟨pk_in i 8 hi, nm_e (nm_r (nI_1 i) (hw _ trivial))⟩))
theorem ig_86 {post : St2 → Prop} {mc ms kc ks : Nat} (H : ∀ ch sn, (∀ j, j < 12 → ch j = ig_ck (nI j) 0) → post (hf, ns, wt, md, a1, ch, sn, a4, a5, a6, a7, a8, a9, a10)) : ∃ n, wX_init_86 post mc ms kc ks hf ns wt md n 0 a1 a2 a3 a4 a5 a6 a7 a8 a9 a10 :=
  pk_loop (fun n i s => wX_init_86 post mc ms kc ks hf ns wt md n (nI i) a1 s a3 a4 a5 a6 a7 a8 a9 a10) (fun i s => ∀ j, j < i → s j = ig_ck (nI j) 0) 12 0 a2 (by omega) (fun j hj => absurd hj (by omega))
    (fun n s h => pk_le 12 12 (fun _ => ig_111 (fun sn => H s sn h)) (fun z => absurd z (by omega)))
    (fun n i s hi h hw => pk_le 12 i (fun z => absurd z (by omega)) (fun _ => ig_chk ⟨pk_in i 12 hi, nm_e (nm_r (nI_1 i) (hw _ (ig_fill1 (f := fun j => ig_ck (nI j) 0) (nI_clamp (by omega)) h rfl)))⟩))
theorem ig_init {post : St2 → Prop} {mc ms : Nat} (hc : 10 ≤ mc) (hs : 184 ≤ ms) (H : ∀ ch sn, (∀ j, j < 12 → ch j = ig_ck (nI j) 0) → post (hf, ns, wt, md, (fun _ => 0), ch, sn, (fun _ => 0), (fun _ => 0), (fun _ => 0), (fun _ => 0), (fun _ => 0), (fun _ => 0), (fun _ => 0))) : wpX_init post mc ms (hf, ns, wt, md) := by
  unfold wpX_init
  exact ⟨by omega, by omega, by omega, by omega, by omega, by omega, by omega, by omega, by omega, by omega, by omega, by omega, by omega, by omega, by omega, by omega, by omega, by omega, by omega, by omega, ig_86 H⟩
theorem ig_bad {post : Int32 → Prop} (i : Nat) (hi : i < 12) (h : post 0) : wpX_bad post () (nI i) :=
  br_f (nI_pos (by omega)) (pk_lt i 12 (fun _ => h) (fun z => absurd z (by omega)))
theorem ig_write {post : Int32 → St2 → Prop} {v : Int32} (i w : Nat) (hi : i < 12) (hw : w < 20) (h : post (nI (w + 1)) (hf, ns, nI (w + 1), md, a1, a2, a3, a4, a5, a6, a7, a8, upd a9 w (nI i), upd a10 w v)) : wpX_write post (hf, ns, nI w, md, a1, a2, a3, a4, a5, a6, a7, a8, a9, a10) (nI i) v := by
  unfold wpX_write
  refine ig_bad i hi (br_t rfl (pk_lt w 20 (fun _ => ?_) (fun z => absurd z (by omega))))
  refine ⟨pk_in w 20 hw, nm_r (by rw [nI_clamp (by omega)]) ⟨pk_in w 20 hw, nm_r (by rw [nI_clamp (by omega)]) (nm_r (nI_1 w) h)⟩⟩
theorem ig_copy0 {post : St2 → Prop} (h : post (ns, ns, wt, md, a1, a2, a3, a4, a5, a6, a7, a8, a9, a10)) : wpX_copyHome post (ns, ns, wt, md, a1, a2, a3, a4, a5, a6, a7, a8, a9, a10) :=
  ⟨1, br_t (Int32.le_refl ns) h⟩
theorem ig_dmg {post : Int32 → Prop} (i : Nat) (hi : i < 12) (h0 : a2 i = ig_ck (nI i) (a1 i) → post 0) (h1 : ¬ a2 i = ig_ck (nI i) (a1 i) → post 1) : wpX_isDamaged post (hf, ns, wt, md, a1, a2, a3, a4, a5, a6, a7, a8, a9, a10) (nI i) := by
  unfold wpX_isDamaged
  dsimp only
  rw [nI_clamp (show i < 2 ^ 31 by omega)]
  exact ⟨pk_in i 12 hi, ig_chk ⟨pk_in i 12 hi, br_c h0 h1⟩⟩
theorem ig_damage {post : Int32 → St2 → Prop} {b : Int32} (i : Nat) (hi : i < 12) (hc : a2 i = ig_ck (nI i) (a1 i))
    (h0 : b = 0 → post 0 (ns, ns, wt, md, upd a1 i (a1 i ^^^ b), a2, a3, a4, a5, a6, a7, a8, a9, a10)) (h1 : ¬ b = 0 → post 1 (ns, ns, wt, md, upd a1 i (a1 i ^^^ b), a2, a3, a4, a5, a6, a7, a8, a9, a10)) : wpX_damage post (ns, ns, wt, md, a1, a2, a3, a4, a5, a6, a7, a8, a9, a10) (nI i) b := by
  unfold wpX_damage
  refine ig_bad i hi (br_t rfl (ig_copy0 (ig_dmg i hi (fun _ => br_t rfl ⟨pk_in i 12 hi, pk_in i 12 hi, nm_r (e' := upd a1 i (a1 i ^^^ b)) (by rw [nI_clamp (by omega)]) ?_⟩) (fun z => absurd hc z))))
  exact br_t rfl (br_c h0 h1)
theorem ig_nw0 {post : Int32 → Prop} {p : Int32} : ∀ m : Nat, m ≤ 20 → (∀ j, j < m → a9 j = p → (∀ i, j < i → i < m → ¬ a9 i = p) → post (nI j)) → ((∀ j, j < m → ¬ a9 j = p) → post (-1)) → ∃ n, wX_newestWaiting_7 post p hf ns wt md a1 a2 a3 a4 a5 a6 a7 a8 a9 a10 n (nI m - 1) := by
  intro m
  induction m with
  | zero => exact fun _ _ hN => ⟨1, br_t (by decide) (hN (fun j hj => absurd hj (by omega)))⟩
  | succ m ih =>
    intro hm hS hN
    rw [nI_pred]
    by_cases e : a9 m = p
    · exact ⟨1, br_f (nI_pos (by omega)) ⟨pk_in m 20 hm, br_t (by rw [nI_clamp (by omega)]; exact e) (hS m (by omega) e (fun i h1 h2 => absurd h1 (by omega)))⟩⟩
    · obtain ⟨n, hn⟩ := ih (by omega)
        (fun j hj hp hl => hS j (by omega) hp (fun i h1 h2 => by
          by_cases ei : i = m
          · rw [ei]; exact e
          · exact hl i h1 (by omega)))
        (fun hl => hN (fun j hj => by
          by_cases ei : j = m
          · rw [ei]; exact e
          · exact hl j (by omega)))
      exact ⟨n + 1, br_f (nI_pos (by omega)) ⟨pk_in m 20 hm, br_f (by rw [nI_clamp (by omega)]; exact e) (nm_r (Int32.sub_eq_add_neg _ _).symm hn)⟩⟩
theorem ig_nw {post : Int32 → Prop} {p : Int32} (m : Nat) (hm : m ≤ 20) (hS : ∀ j, j < m → a9 j = p → (∀ i, j < i → i < m → ¬ a9 i = p) → post (nI j)) (hN : (∀ j, j < m → ¬ a9 j = p) → post (-1)) : wpX_newestWaiting post (hf, ns, nI m, md, a1, a2, a3, a4, a5, a6, a7, a8, a9, a10) p :=
  nm_e (ig_nw0 m hm hS hN)
theorem ig_nj {post : Int32 → Prop} {p : Int32} (h : post (-1)) : wpX_newestJournaled post (ns, ns, wt, md, a1, a2, a3, a4, a5, a6, a7, a8, a9, a10) p :=
  ⟨1, br_t (Int32.le_refl ns) h⟩
theorem ig_dg {post : Int32 → Prop} (i : Nat) (hi : i < 12) (h1 : a2 i = ig_ck (nI i) (a1 i) → post 1) (h0 : ¬ a2 i = ig_ck (nI i) (a1 i) → post 0) : wpX_durableGood post (ns, ns, wt, md, a1, a2, a3, a4, a5, a6, a7, a8, a9, a10) (nI i) := by
  unfold wpX_durableGood
  exact ig_nj (br_t (by decide) (ig_dmg i hi (fun z => br_t rfl (h1 z)) (fun z => br_f (by decide) (h0 z))))
theorem ig_dv {post : Int32 → Prop} (i : Nat) (hi : i < 12) (h : post (a1 i)) : wpX_durableValue post (ns, ns, wt, md, a1, a2, a3, a4, a5, a6, a7, a8, a9, a10) (nI i) := by
  unfold wpX_durableValue
  dsimp only
  rw [nI_clamp (show i < 2 ^ 31 by omega)]
  exact ig_nj (br_t (by decide) ⟨pk_in i 12 hi, h⟩)
/-- atRisk: f i is what sector i adds -/
theorem ig_atRisk {post : Int32 → Prop} {f : Nat → Int32} (m : Nat) (hm : m ≤ 20)
    (hS : ∀ i j, i < 12 → j < m → a9 j = nI i → (∀ k, j < k → k < m → ¬ a9 k = nI i) → (a2 i = ig_ck (nI i) (a1 i) → a1 i = a10 j → f i = 0) ∧ (a2 i = ig_ck (nI i) (a1 i) → ¬ a1 i = a10 j → f i = 1) ∧ (¬ a2 i = ig_ck (nI i) (a1 i) → f i = 1))
    (hN : ∀ i, i < 12 → (∀ j, j < m → ¬ a9 j = nI i) → f i = 0)
    (h : post (ig_sum f 12)) : wpX_atRisk post (ns, ns, nI m, md, a1, a2, a3, a4, a5, a6, a7, a8, a9, a10) := by
  unfold wpX_atRisk
  refine pk_loop (fun n i s => wX_atRisk_4 post ns ns (nI m) md a1 a2 a3 a4 a5 a6 a7 a8 a9 a10 n s (nI i)) (fun i s => s = ig_sum f i) 12 0 0 (by omega) rfl ?_ ?_
  · intro n s hs
    exact pk_le 12 12 (fun _ => by rw [hs]; exact h) (fun z => absurd z (by omega))
  · intro n i s hi hs hw
    have w0 : f i = 0 → wX_atRisk_4 post ns ns (nI m) md a1 a2 a3 a4 a5 a6 a7 a8 a9 a10 n s (nI (i + 1)) := fun z => hw s (show s = ig_sum f i + f i by rw [z, Int32.add_zero]; exact hs)
    have w1 : f i = 1 → wX_atRisk_4 post ns ns (nI m) md a1 a2 a3 a4 a5 a6 a7 a8 a9 a10 n (s + 1) (nI (i + 1)) := fun z => hw (s + 1) (show s + 1 = ig_sum f i + f i by rw [z, hs])
    refine pk_le 12 i (fun z => absurd z (by omega)) (fun _ => ig_nw m hm (fun j hj hp hl => br_f (nI_pos (by omega)) ?_) (fun hl => br_t (by decide) (nm_r (nI_1 i) (w0 (hN i hi hl)))))
    obtain ⟨k1, k2, k3⟩ := hS i j hi hj hp hl
    refine ig_dg i hi (fun g => ig_dv i hi (br_f (by decide) ⟨pk_in j 20 (by omega), ?_⟩)) (fun g => ig_dv i hi (br_t rfl (nm_e (nm_r (nI_1 i) (w1 (k3 g))))))
    rw [nI_clamp (show j < 2 ^ 31 by omega)]
    exact br_c (fun e => nm_r (nI_1 i) (w0 (k1 g e))) (fun e => nm_e (nm_r (nI_1 i) (w1 (k2 g e))))
theorem ig_read {post : Int32 → Prop} (i m : Nat) (hi : i < 12) (hm : m ≤ 20) (hS : ∀ j, j < m → a9 j = nI i → (∀ k, j < k → k < m → ¬ a9 k = nI i) → post (a10 j)) (hN : (∀ j, j < m → ¬ a9 j = nI i) → a2 i = ig_ck (nI i) (a1 i) ∧ post (a1 i)) : wpX_read post (ns, ns, nI m, md, a1, a2, a3, a4, a5, a6, a7, a8, a9, a10) (nI i) := by
  unfold wpX_read
  refine ig_bad i hi (br_t rfl (ig_nw m hm (fun j hj hp hl => br_f (nI_pos (by omega)) ⟨pk_in j 20 (by omega), ?_⟩) (fun hl => br_t (by decide) (ig_dg i hi (fun g => br_f (by decide) (ig_dv i hi (hN hl).2)) (fun g => absurd (hN hl).1 g)))))
  rw [nI_clamp (show j < 2 ^ 31 by omega)]
  exact hS j hj hp hl
theorem ig_readable {post : Int32 → Prop} (i m : Nat) (hi : i < 12) (hm : m ≤ 20) (hN : (∀ j, j < m → ¬ a9 j = nI i) → a2 i = ig_ck (nI i) (a1 i)) (h : post 1) : wpX_readable post (ns, ns, nI m, md, a1, a2, a3, a4, a5, a6, a7, a8, a9, a10) (nI i) := by
  unfold wpX_readable
  exact ig_bad i hi (br_t rfl (ig_nw m hm (fun j hj hp hl => br_t (nI_pos' (by omega)) h) (fun hl => br_f (by decide) (ig_dg i hi (fun g => br_f (by decide) h) (fun g => absurd (hN hl) g)))))
end
end
section
/-! ===== the journal: one section in slot 0 ===== -/
theorem ig_cl0 : (0 : Int32).toNatClampNeg = 0 := by decide
theorem ig_in8 : vp_in (0 : Int32) 8 := pk_in 0 8 (by omega)
/-- one array under dropWaiting: the first i places shifted, the others as they were -/
def ig_D (a s : Nat → Int32) (k i : Nat) : Prop := ∀ j, (j < i → s j = a (j + k)) ∧ (i ≤ j → s j = a j)
theorem ig_D0 (a : Nat → Int32) (k : Nat) : ig_D a a k 0 := fun j => ⟨fun h => absurd h (by omega), fun _ => rfl⟩
theorem ig_D1 {a s : Nat → Int32} {k i : Nat} (h : ig_D a s k i) : ig_D a (upd s i (s (i + k))) k (i + 1) := by
  intro j
  refine ⟨fun hj => ?_, fun hj => ?_⟩
  · by_cases e : j = i
    · rw [e, pk_us]
      exact (h (i + k)).2 (by omega)
    · rw [pk_un e]
      exact (h j).1 (by omega)
  · rw [pk_un (by omega)]
    exact (h j).2 (by omega)
theorem ig_putC {h : Nat → Int32} {sec : Nat → Nat} {f g : Nat → Int32} : ∀ k, (∀ j, j < k → f j = g j) → ig_put h sec f k = ig_put h sec g k := by
  intro k
  induction k with
  | zero => exact fun _ => rfl
  | succ k ih =>
    intro e
    show upd (ig_put h sec f k) (sec k) (f k) = upd (ig_put h sec g k) (sec k) (g k)
    rw [ih (fun j hj => e j (by omega)), e k (by omega)]
section
variable {a1 a2 a3 a4 a5 a6 a7 a8 a9 a10 : Nat → Int32} {hf ns wt md : Int32}
theorem ig_46 {post : Int32 → St2 → Prop} {k : Nat} (hk : k ≤ 4) (H : ∀ b6 b7 b8, (∀ j, j < k → b6 j = a9 j) → (∀ j, j < k → b7 j = a10 j) → (∀ j, j < k → b8 j = ig_ck (a9 j) (a10 j)) → post 0 (hf, ns, wt, md, a1, a2, a3, a4, a5, b6, b7, b8, a9, a10)) : ∃ n, wX_fillSlot_46 post 0 (nI k) 0 hf ns wt md n 0 a1 a2 a3 a4 a5 a6 a7 a8 a9 a10 := by
  refine pk_loop (fun n i s => wX_fillSlot_46 post 0 (nI k) 0 hf ns wt md n (nI i) a1 a2 a3 a4 a5 s.1 s.2.1 s.2.2 a9 a10) (fun i s => (∀ j, j < i → s.1 j = a9 j) ∧ (∀ j, j < i → s.2.1 j = a10 j) ∧ (∀ j, j < i → s.2.2 j = ig_ck (a9 j) (a10 j))) k 0 (a6, a7, a8) (by omega) ⟨fun j hj => absurd hj (by omega), fun j hj => absurd hj (by omega), fun j hj => absurd hj (by omega)⟩ ?_ ?_
  · intro n s h
    exact pk_le k k (fun _ => H s.1 s.2.1 s.2.2 h.1 h.2.1 h.2.2) (fun z => absurd z (by omega))
  · intro n i s hi h hw
    have w := hw (upd s.1 i (a9 i), upd s.2.1 i (a10 i), upd s.2.2 i (ig_ck (a9 i) (a10 i))) ⟨ig_fill1 rfl h.1 rfl, ig_fill1 rfl h.2.1 rfl, ig_fill1 (f := fun j => ig_ck (a9 j) (a10 j)) rfl h.2.2 rfl⟩
    have e1 : (0 : Int32) + nI i = nI i := Int32.zero_add _
    have e2 : (0 : Int32) * 4 + nI i = nI i := by rw [show (0 : Int32) * 4 = 0 by decide, e1]
    refine pk_le k i (fun z => absurd z (by omega)) (fun _ => nm_r e2 ?_)
    rw [e1, nI_clamp (show i < 2 ^ 31 by omega)]
    exact ⟨pk_in i 20 (by omega), pk_in i 32 (by omega), nm_e ⟨pk_in i 20 (by omega), pk_in i 32 (by omega), nm_e ⟨pk_in i 20 (by omega), pk_in i 20 (by omega), ig_chk ⟨pk_in i 32 (by omega), nm_e (nm_r (nI_1 i) w)⟩⟩⟩⟩
theorem ig_fill {post : Int32 → St2 → Prop} {k : Nat} (hk : k ≤ 4) (H : ∀ b6 b7 b8, (∀ j, j < k → b6 j = a9 j) → (∀ j, j < k → b7 j = a10 j) → (∀ j, j < k → b8 j = ig_ck (a9 j) (a10 j)) → post 0 (0, 0, wt, md, a1, a2, upd a3 0 0, upd a4 0 (nI k), a5, b6, b7, b8, a9, a10)) : wpX_fillSlot post (0, 0, wt, md, a1, a2, a3, a4, a5, a6, a7, a8, a9, a10) 0 (nI k) := by
  unfold wpX_fillSlot
  refine br_t (by decide) ?_
  unfold wX_fillSlot_18
  exact nm_r (e' := 0) (by decide) ⟨ig_in8, nm_r (e' := upd a3 0 0) (by rw [ig_cl0]) ⟨ig_in8, nm_r (e' := upd a4 0 (nI k)) (by rw [ig_cl0]) (ig_46 hk H)⟩⟩
theorem ig_sumOf {post : Int32 → Prop} {k : Nat} (hk : k ≤ 4) (hc : a4 0 = nI k) (H : ∀ r, post r) : wpX_sumOf post (hf, ns, wt, md, a1, a2, a3, a4, a5, a6, a7, a8, a9, a10) 0 := by
  have e : (0 : Int32) * 4 + a4 (0 : Int32).toNatClampNeg = nI k := by rw [ig_cl0, hc, show (0 : Int32) * 4 = 0 by decide, Int32.zero_add]
  unfold wpX_sumOf
  refine ⟨ig_in8, ig_in8, nm_e (nm_r (e' := 0) (by decide) ?_)⟩
  refine pk_loop (σ := Int32) (fun n i s => wX_sumOf_21 post 0 hf ns wt md a1 a2 a3 a4 a5 a6 a7 a8 a9 a10 n s (nI i)) (fun _ _ => True) k 0 _ (by omega) trivial ?_ ?_
  · intro n s _
    exact And.intro ig_in8 (pk_le k k (fun _ => H s) (fun z => absurd z (by omega)) e)
  · intro n i s hi _ hw
    exact And.intro ig_in8 (pk_le k i (fun z => absurd z (by omega)) (fun _ => ⟨pk_in i 32 (by omega), nm_e ⟨pk_in i 32 (by omega), nm_e ⟨pk_in i 32 (by omega), nm_e (nm_r (nI_1 i) (hw _ trivial))⟩⟩⟩) e)
/-- what commit k leaves in the journal -/
def ig_J (k : Nat) (s9 s10 : Nat → Int32) (n' : Int32) (b4 b6 b7 b8 : Nat → Int32) : Prop := (k = 0 ∧ n' = 0) ∨ (0 < k ∧ n' = 1 ∧ b4 0 = nI k ∧ (∀ j, j < k → b6 j = s9 j) ∧ (∀ j, j < k → b7 j = s10 j) ∧ (∀ j, j < k → b8 j = ig_ck (s9 j) (s10 j)))
theorem ig_commit {post : St2 → Prop} {k : Nat} (hk : k ≤ 2) (H : ∀ n' b3 b4 b5 b6 b7 b8, ig_J k a9 a10 n' b4 b6 b7 b8 → post (0, n', wt, md + nI k, a1, a2, b3, b4, b5, b6, b7, b8, a9, a10)) : wpX_commit post (0, 0, wt, md, a1, a2, a3, a4, a5, a6, a7, a8, a9, a10) (nI k) := by
  unfold wpX_commit
  rcases Nat.eq_zero_or_pos k with hz | hp
  · refine ⟨1, br_t ?_ (nm_e (H 0 a3 a4 a5 a6 a7 a8 (Or.inl ⟨hz, rfl⟩)))⟩
    rw [hz]
    decide
  · have e : nI k - 0 = nI k := Int32.sub_zero _
    refine ⟨2, br_f (nI_nle hp (by omega)) (br_f ?_ ?_)⟩
    · rw [e]
      exact nI_ge (b := 4) (by omega) (by omega)
    · rw [e]
      unfold wX_commit_21
      refine ig_fill (by omega) (fun b6 b7 b8 h6 h7 h8 => ig_sumOf (k := k) (by omega) pk_us (fun r => ⟨ig_in8, nm_e (nm_r (e' := 1) (by decide) (nm_r (e' := 4) (by decide) (br_t (nI_le (b := 4) (by omega) (by omega)) (nm_e (H _ _ _ _ _ _ _ (Or.inr ⟨hp, rfl, pk_us, h6, h7, h8⟩))))))⟩))
theorem ig_drop {post : St2 → Prop} (k w : Nat) (hk : k ≤ w) (hw : w ≤ 20) (H : ∀ b9 b10, (∀ j, j < w - k → b9 j = a9 (j + k)) → (∀ j, j < w - k → b10 j = a10 (j + k)) → post (hf, ns, nI (w - k), md, a1, a2, a3, a4, a5, a6, a7, a8, b9, b10)) : wpX_dropWaiting post (hf, ns, nI w, md, a1, a2, a3, a4, a5, a6, a7, a8, a9, a10) (nI k) := by
  unfold wpX_dropWaiting
  refine nm_r (pk_sub hk) ?_
  refine pk_loop (fun n i s => wX_dropWaiting_12 post (nI k) hf ns (nI (w - k)) md n (nI i) a1 a2 a3 a4 a5 a6 a7 a8 s.1 s.2) (fun i s => ig_D a9 s.1 k i ∧ ig_D a10 s.2 k i) (w - k) 0 (a9, a10) (by omega) ⟨ig_D0 _ _, ig_D0 _ _⟩ ?_ ?_
  · intro n s h
    exact pk_le (w - k) (w - k) (fun _ => H s.1 s.2 (fun j hj => (h.1 j).1 hj) (fun j hj => (h.2 j).1 hj)) (fun z => absurd z (by omega))
  · intro n i s hi h hl
    have t := hl (upd s.1 i (s.1 (i + k)), upd s.2 i (s.2 (i + k))) ⟨ig_D1 h.1, ig_D1 h.2⟩
    refine pk_le (w - k) i (fun z => absurd z (by omega)) (fun _ => ?_)
    rw [nI_add, nI_clamp (show i + k < 2 ^ 31 by omega), nI_clamp (show i < 2 ^ 31 by omega)]
    exact ⟨pk_in (i + k) 20 (by omega), pk_in i 20 (by omega), nm_e ⟨pk_in (i + k) 20 (by omega), pk_in i 20 (by omega), nm_e (nm_r (nI_1 i) t)⟩⟩
/-- k is n held between 0 and 2 -/
def ig_C (n : Int32) (k : Nat) : Prop := (¬ 0 ≤ n ∧ k = 0) ∨ (0 ≤ n ∧ n ≤ 2 ∧ k ≤ 2 ∧ n = nI k) ∨ (0 ≤ n ∧ ¬ n ≤ 2 ∧ k = 2)
theorem ig_flush {post : Int32 → St2 → Prop} {n : Int32} {k : Nat} (hn : ig_C n k) (H : ∀ n' b3 b4 b5 b6 b7 b8 b9 b10, ig_J k a9 a10 n' b4 b6 b7 b8 → (∀ j, j < 2 - k → b9 j = a9 (j + k)) → (∀ j, j < 2 - k → b10 j = a10 (j + k)) → post (nI k) (0, n', nI (2 - k), nI k, a1, a2, b3, b4, b5, b6, b7, b8, b9, b10)) : wpX_flushSome post (0, 0, 2, 0, a1, a2, a3, a4, a5, a6, a7, a8, a9, a10) n := by
  have hk : k ≤ 2 := by
    rcases hn with ⟨_, h⟩ | ⟨_, _, h, _⟩ | ⟨_, _, h⟩ <;> omega
  have M : wpX_commit (fun u => match u with
    | (c1, c2, c3, c4, b1, b2, b3, b4, b5, b6, b7, b8, b9, b10) => wpX_dropWaiting (fun u => match u with
      | (d1, d2, d3, d4, e1, e2, e3, e4, e5, e6, e7, e8, e9, e10) => post (nI k) (d1, d2, d3, d4, e1, e2, e3, e4, e5, e6, e7, e8, e9, e10)) (c1, c2, c3, c4, b1, b2, b3, b4, b5, b6, b7, b8, b9, b10) (nI k)) (0, 0, 2, 0, a1, a2, a3, a4, a5, a6, a7, a8, a9, a10) (nI k) := by
    refine ig_commit hk (fun n' b3 b4 b5 b6 b7 b8 hJ => ?_)
    rw [Int32.zero_add]
    exact ig_drop k 2 hk (by omega) (fun b9 b10 h9 h10 => H n' b3 b4 b5 b6 b7 b8 b9 b10 hJ h9 h10)
  unfold wpX_flushSome
  rcases hn with ⟨h1, h2⟩ | ⟨h1, h2, h3, h4⟩ | ⟨h1, h2, h3⟩
  · rw [h2] at M
    exact br_f h1 M
  · refine br_t h1 (br_t h2 ?_)
    rw [h4]
    exact M
  · rw [h3] at M
    exact br_t h1 (br_f h2 M)
theorem ig_apply {post : St2 → Prop} {k : Nat} {sec : Nat → Nat} {p0 : Int32} (hp : p0 = 0) (hk : k ≤ 4) (hc : a4 0 = nI k) (h6 : ∀ j, j < k → a6 j = nI (sec j)) (hs : ∀ j, j < k → sec j < 12) (H : post (hf, ns, wt, md, ig_put a1 sec a7 k, ig_put a2 sec a8 k, a3, a4, a5, a6, a7, a8, a9, a10)) : wpX_applySlot post (hf, ns, wt, md, a1, a2, a3, a4, a5, a6, a7, a8, a9, a10) p0 := by
  subst hp
  have e : (0 : Int32) * 4 + a4 (0 : Int32).toNatClampNeg = nI k := by rw [ig_cl0, hc, show (0 : Int32) * 4 = 0 by decide, Int32.zero_add]
  unfold wpX_applySlot
  refine nm_r (e' := 0) (by decide) ?_
  refine pk_loop (fun n i s => wX_applySlot_4 post 0 hf ns wt md n (nI i) s.1 s.2 a3 a4 a5 a6 a7 a8 a9 a10) (fun i s => s.1 = ig_put a1 sec a7 i ∧ s.2 = ig_put a2 sec a8 i) k 0 (a1, a2) (by omega) ⟨rfl, rfl⟩ ?_ ?_
  · intro n s h
    exact And.intro ig_in8 (pk_le k k (fun _ => by rw [h.1, h.2]; exact H) (fun z => absurd z (by omega)) e)
  · intro n i s hi h hw
    have t := hw (upd s.1 (sec i) (a7 i), upd s.2 (sec i) (a8 i)) ⟨by rw [h.1]; rfl, by rw [h.2]; rfl⟩
    have hsi := hs i hi
    refine And.intro ig_in8 (pk_le k i (fun z => absurd z (by omega)) (fun _ => ?_) e)
    rw [nI_clamp (show i < 2 ^ 31 by omega), h6 i hi, nI_clamp (show sec i < 2 ^ 31 by omega)]
    exact ⟨pk_in i 32 (by omega), pk_in i 32 (by omega), pk_in (sec i) 12 hsi, nm_e ⟨pk_in i 32 (by omega), pk_in i 32 (by omega), pk_in (sec i) 12 hsi, nm_e (nm_r (nI_1 i) t)⟩⟩
theorem ig_copy1 {post : St2 → Prop} {k : Nat} {sec : Nat → Nat} (hk : k ≤ 4) (hc : a4 0 = nI k) (h6 : ∀ j, j < k → a6 j = nI (sec j)) (hs : ∀ j, j < k → sec j < 12) (H : post (1, 1, wt, md, ig_put a1 sec a7 k, ig_put a2 sec a8 k, a3, a4, a5, a6, a7, a8, a9, a10)) : wpX_copyHome post (0, 1, wt, md, a1, a2, a3, a4, a5, a6, a7, a8, a9, a10) :=
  ⟨2, br_f (by decide) (ig_apply (sec := sec) (by decide) hk hc h6 hs (nm_r (e' := 1) (by decide) (br_t (Int32.le_refl 1) H)))⟩
theorem ig_scrub8 {post : Int32 → St2 → Prop} {f : Nat → Int32} (h0 : ∀ i, i < 12 → a2 i = ig_ck (nI i) (a1 i) → f i = 0) (h1 : ∀ i, i < 12 → ¬ a2 i = ig_ck (nI i) (a1 i) → f i = 1) (H : post (ig_sum f 12) (hf, ns, wt, md, a1, a2, a3, a4, a5, a6, a7, a8, a9, a10)) : ∃ n, wX_scrub_8 post hf ns wt md a1 a2 a3 a4 a5 a6 a7 a8 a9 a10 n 0 0 := by
  refine pk_loop (fun n i s => wX_scrub_8 post hf ns wt md a1 a2 a3 a4 a5 a6 a7 a8 a9 a10 n s (nI i)) (fun i s => s = ig_sum f i) 12 0 0 (by omega) rfl ?_ ?_
  · intro n s hs
    exact pk_le 12 12 (fun _ => by rw [hs]; exact H) (fun z => absurd z (by omega))
  · intro n i s hi hs hw
    have w0 : f i = 0 → wX_scrub_8 post hf ns wt md a1 a2 a3 a4 a5 a6 a7 a8 a9 a10 n s (nI (i + 1)) := fun z => hw s (show s = ig_sum f i + f i by rw [z, Int32.add_zero]; exact hs)
    have w1 : f i = 1 → wX_scrub_8 post hf ns wt md a1 a2 a3 a4 a5 a6 a7 a8 a9 a10 n (s + 1) (nI (i + 1)) := fun z => hw (s + 1) (show s + 1 = ig_sum f i + f i by rw [z, hs])
    exact pk_le 12 i (fun z => absurd z (by omega)) (fun _ => ig_dmg i hi (fun g => br_t rfl (nm_r (nI_1 i) (w0 (h0 i hi g)))) (fun g => br_f (by decide) (nm_e (nm_r (nI_1 i) (w1 (h1 i hi g))))))
/-- scrub behind commit k: the entries are put home, then the harmed sectors are counted -/
theorem ig_scrub {post : Int32 → St2 → Prop} {f : Nat → Int32} {k : Nat} {sec : Nat → Nat} {s9 val : Nat → Int32} {n' : Int32} (hk : k ≤ 2) (hJ : ig_J k s9 val n' a4 a6 a7 a8) (h9 : ∀ j, j < k → s9 j = nI (sec j)) (hs : ∀ j, j < k → sec j < 12)
    (h0 : ∀ i, i < 12 → ig_put a2 sec (fun j => ig_ck (nI (sec j)) (val j)) k i = ig_ck (nI i) (ig_put a1 sec val k i) → f i = 0)
    (h1 : ∀ i, i < 12 → ¬ ig_put a2 sec (fun j => ig_ck (nI (sec j)) (val j)) k i = ig_ck (nI i) (ig_put a1 sec val k i) → f i = 1)
    (H : post (ig_sum f 12) (n', n', wt, md, ig_put a1 sec val k, ig_put a2 sec (fun j => ig_ck (nI (sec j)) (val j)) k, a3, a4, a5, a6, a7, a8, a9, a10)) : wpX_scrub post (0, n', wt, md, a1, a2, a3, a4, a5, a6, a7, a8, a9, a10) := by
  unfold wpX_scrub
  rcases hJ with ⟨hz, hn⟩ | ⟨hp, hn, hc, h6, h7, h8⟩
  · subst hz
    subst hn
    exact ig_copy0 (ig_scrub8 h0 h1 H)
  · subst hn
    have e1 : ig_put a1 sec a7 k = ig_put a1 sec val k := ig_putC k h7
    have e2 : ig_put a2 sec a8 k = ig_put a2 sec (fun j => ig_ck (nI (sec j)) (val j)) k := ig_putC k (fun j hj => by rw [h8 j hj, h9 j hj])
    refine ig_copy1 (sec := sec) (by omega) hc (fun j hj => by rw [h6 j hj, h9 j hj]) hs ?_
    rw [e1, e2]
    exact ig_scrub8 h0 h1 H
end
end
section
/-! ===== the plain law: no program in sight ===== -/
def ig_sec (a b : Nat) : Nat → Nat := fun j => if j = 0 then a else b
def ig_one (v w bits x7 x8 : Int32) : Int32 := if x7 = x8 then (if w = 0 then (if bits = 0 then 0 else 1) else 1) else (if v = 0 then (if bits = 0 then 0 else 1) else 1)
def ig_two (w x7 x8 : Int32) : Int32 := if x7 = x8 then 0 else (if w = 0 then 0 else 1)
/-- the state behind two writes and a damage -/
def ig_K (a b : Nat) (v w bits : Int32) (hm ch s9 s10 : Nat → Int32) : Prop := a < 12 ∧ b < 12 ∧ (∀ i, hm i = if i = a then bits else 0) ∧ (∀ j, j < 12 → ch j = ig_ck (nI j) 0) ∧ s9 0 = nI a ∧ s9 1 = nI b ∧ s10 0 = v ∧ s10 1 = w
theorem ig_G0 {a b : Nat} {v w bits : Int32} {hm ch s9 s10 : Nat → Int32} (K : ig_K a b v w bits hm ch s9 s10) {i : Nat} (hi : i < 12) : ch i = ig_ck (nI i) (hm i) ↔ (i = a → bits = 0) := by
  obtain ⟨ha, hb, hH, hC, _⟩ := K
  rw [hC i hi, hH i]
  by_cases e : i = a
  · rw [if_pos e]
    exact ⟨fun h _ => (ig_ckI h).symm, fun h => by rw [h e]⟩
  · rw [if_neg e]
    exact ⟨fun _ z => absurd z e, fun _ => rfl⟩
theorem ig_G1 {h c : Nat → Int32} {s i : Nat} {x : Int32} : upd c s (ig_ck (nI s) x) i = ig_ck (nI i) (upd h s x i) ↔ (i = s ∨ c i = ig_ck (nI i) (h i)) := by
  by_cases e : i = s
  · rw [e, pk_us, pk_us]
    exact ⟨fun _ => Or.inl rfl, fun _ => rfl⟩
  · rw [pk_un e, pk_un e]
    exact ⟨fun h => Or.inr h, fun h => h.resolve_left e⟩
/-- what is harmed behind the entries put home -/
theorem ig_good {a b : Nat} {v w bits : Int32} {hm ch s9 s10 : Nat → Int32} (K : ig_K a b v w bits hm ch s9 s10) {k : Nat} (hk : k ≤ 2) {i : Nat} (hi : i < 12) : ig_put ch (ig_sec a b) (fun j => ig_ck (nI (ig_sec a b j)) (s10 j)) k i = ig_ck (nI i) (ig_put hm (ig_sec a b) s10 k i) ↔ (k = 0 → i = a → bits = 0) := by
  have g0 := ig_G0 K hi
  have g1 : upd ch a (ig_ck (nI a) (s10 0)) i = ig_ck (nI i) (upd hm a (s10 0) i) := ig_G1.mpr (by
    by_cases e : i = a
    · exact Or.inl e
    · exact Or.inr (g0.mpr (fun z => absurd z e)))
  match k, hk with
  | 0, _ => exact ⟨fun h _ => g0.mp h, fun h => g0.mpr (h rfl)⟩
  | 1, _ => exact ⟨fun _ z => absurd z (by omega), fun _ => g1⟩
  | 2, _ =>
    refine ⟨fun _ z => absurd z (by omega), fun _ => ?_⟩
    show upd (upd ch a (ig_ck (nI a) (s10 0))) b (ig_ck (nI b) (s10 1)) i = ig_ck (nI i) (upd (upd hm a (s10 0)) b (s10 1) i)
    exact ig_G1.mpr (Or.inr g1)
/-- the answer of scrub -/
def ig_sc (k : Nat) (bits : Int32) : Int32 := if k = 0 then (if bits = 0 then 0 else 1) else 0
def ig_scF (a : Nat) (k : Nat) (bits : Int32) : Nat → Int32 := fun i => (if i = a then ig_sc k bits else 0) + (if i = a then 0 else 0)
theorem ig_scSum {a k : Nat} {bits : Int32} (ha : a < 12) : ig_sum (ig_scF a k bits) 12 = ig_sc k bits := by
  rw [ig_sum2 (f := ig_scF a k bits) (a := a) (b := a) (p := ig_sc k bits) (q := 0) 12 (fun i _ => rfl), if_pos ha, if_pos ha, Int32.add_zero]
theorem ig_scF0 {a k i : Nat} {bits : Int32} (h : k = 0 → i = a → bits = 0) : ig_scF a k bits i = 0 := by
  unfold ig_scF ig_sc
  by_cases e : i = a
  · rw [if_pos e, if_pos e]
    by_cases hk : k = 0
    · rw [if_pos hk, if_pos (h hk e)]
      rfl
    · rw [if_neg hk]
      rfl
  · rw [if_neg e, if_neg e]
    rfl
theorem ig_scF1 {a k i : Nat} {bits : Int32} (h : ¬ (k = 0 → i = a → bits = 0)) : ig_scF a k bits i = 1 := by
  have hk : k = 0 := Decidable.byContradiction (fun z => h (fun y => absurd y z))
  have e : i = a := Decidable.byContradiction (fun z => h (fun _ y => absurd y z))
  have hb : ¬ bits = 0 := fun z => h (fun _ _ => z)
  unfold ig_scF ig_sc
  rw [if_pos e, if_pos e, if_pos hk, if_neg hb]
  rfl
/-- what each sector adds to atRisk -/
def ig_rk (a b : Nat) (v w bits : Int32) : Nat → Int32 := fun i => (if i = a then ig_one v w bits (nI a) (nI b) else 0) + (if i = b then ig_two w (nI a) (nI b) else 0)
theorem ig_rkSum {a b : Nat} {v w bits : Int32} (ha : a < 12) (hb : b < 12) : ig_sum (ig_rk a b v w bits) 12 = ig_one v w bits (nI a) (nI b) + ig_two w (nI a) (nI b) := by
  rw [ig_sum2 (f := ig_rk a b v w bits) (a := a) (b := b) (p := ig_one v w bits (nI a) (nI b)) (q := ig_two w (nI a) (nI b)) 12 (fun i _ => rfl), if_pos ha, if_pos hb]
theorem ig_rkN {a b : Nat} {v w bits : Int32} {hm ch s9 s10 : Nat → Int32} (K : ig_K a b v w bits hm ch s9 s10) {i : Nat} (hl : ∀ j, j < 2 → ¬ s9 j = nI i) : ig_rk a b v w bits i = 0 := by
  obtain ⟨ha, hb, hH, hC, h90, h91, h100, h101⟩ := K
  have e0 : ¬ i = a := fun e => hl 0 (by omega) (by rw [h90, e])
  have e1 : ¬ i = b := fun e => hl 1 (by omega) (by rw [h91, e])
  unfold ig_rk
  rw [if_neg e0, if_neg e1]
  rfl
theorem ig_rkS {a b : Nat} {v w bits : Int32} {hm ch s9 s10 : Nat → Int32} (K : ig_K a b v w bits hm ch s9 s10) {i j : Nat} (hi : i < 12) (hj : j < 2) (hp : s9 j = nI i) (hl : ∀ k, j < k → k < 2 → ¬ s9 k = nI i) :
    (ch i = ig_ck (nI i) (hm i) → hm i = s10 j → ig_rk a b v w bits i = 0) ∧ (ch i = ig_ck (nI i) (hm i) → ¬ hm i = s10 j → ig_rk a b v w bits i = 1) ∧ (¬ ch i = ig_ck (nI i) (hm i) → ig_rk a b v w bits i = 1) := by
  have g := ig_G0 K hi
  obtain ⟨ha, hb, hH, hC, h90, h91, h100, h101⟩ := K
  have nab : nI a = nI b ↔ a = b := nI_eq (by omega) (by omega)
  rw [g, hH i]
  clear g hH hC
  unfold ig_rk ig_one ig_two
  match j, hj with
  | 0, _ =>
    rw [h90] at hp
    have e : a = i := (nI_eq (by omega) (by omega)).mp hp
    have n1 : ¬ b = i := fun z => hl 1 (by omega) (by omega) (by rw [h91, z])
    subst e
    have n2 : ¬ nI a = nI b := fun z => n1 (nab.mp z).symm
    have n3 : ¬ a = b := fun z => n1 z.symm
    rw [h100, if_pos rfl, if_pos rfl, if_neg n2, if_neg n3, Int32.add_zero]
    refine ⟨fun g e => ?_, fun g e => ?_, fun g => ?_⟩
    · have gb := g rfl
      rw [if_pos (show v = 0 by rw [← e, gb]), if_pos gb]
    · have gb := g rfl
      rw [if_neg (show ¬ v = 0 from fun z => e (by rw [gb, z]))]
    · have gb : ¬ bits = 0 := fun z => g (fun _ => z)
      rw [if_neg gb]
      by_cases hv : v = 0
      · rw [if_pos hv]
      · rw [if_neg hv]
  | 1, _ =>
    rw [h91] at hp
    have e : b = i := (nI_eq (by omega) (by omega)).mp hp
    subst e
    rw [h101, if_pos (rfl : b = b)]
    by_cases eab : b = a
    · have n2 : nI a = nI b := by rw [eab]
      rw [if_pos eab, if_pos eab, if_pos n2, if_pos n2, Int32.add_zero]
      refine ⟨fun g e => ?_, fun g e => ?_, fun g => ?_⟩
      · have gb := g eab
        rw [if_pos (show w = 0 by rw [← e, gb]), if_pos gb]
      · have gb := g eab
        rw [if_neg (show ¬ w = 0 from fun z => e (by rw [gb, z]))]
      · have gb : ¬ bits = 0 := fun z => g (fun _ => z)
        rw [if_neg gb]
        by_cases hv : w = 0
        · rw [if_pos hv]
        · rw [if_neg hv]
    · have n2 : ¬ nI a = nI b := fun z => eab (nab.mp z).symm
      rw [if_neg eab, if_neg eab, if_neg n2, Int32.zero_add]
      refine ⟨fun g e => ?_, fun g e => ?_, fun g => ?_⟩
      · rw [if_pos e.symm]
      · rw [if_neg (show ¬ w = 0 from fun z => e z.symm)]
      · exact absurd (fun z => absurd z eab) g
/-- what read must answer -/
def ig_Q (a b : Nat) (v w : Int32) (r : Int32) : Prop := (nI a = nI b → r = w) ∧ (¬ nI a = nI b → r = v)
theorem ig_QS {a b : Nat} {v w bits : Int32} {hm ch s9 s10 b9 b10 : Nat → Int32} (K : ig_K a b v w bits hm ch s9 s10) {k : Nat} (hk : k ≤ 2) (h9 : ∀ j, j < 2 - k → b9 j = s9 (j + k)) (h10 : ∀ j, j < 2 - k → b10 j = s10 (j + k)) {j : Nat} (hj : j < 2 - k) (hp : b9 j = nI a) (hl : ∀ i, j < i → i < 2 - k → ¬ b9 i = nI a) : ig_Q a b v w (b10 j) := by
  obtain ⟨ha, hb, hH, hC, h90, h91, h100, h101⟩ := K
  rw [h9 j hj] at hp
  rw [h10 j hj]
  rcases (show j + k = 0 ∨ j + k = 1 by omega) with e | e
  · have hj0 : j = 0 := by omega
    have hk0 : k = 0 := by omega
    subst hj0
    subst hk0
    have n1 := hl 1 (by omega) (by omega)
    rw [h9 1 (by omega), h91] at n1
    rw [h100]
    exact ⟨fun z => absurd z.symm n1, fun _ => rfl⟩
  · rw [e] at hp
    rw [e, h101]
    rw [h91] at hp
    exact ⟨fun _ => rfl, fun z => absurd hp.symm z⟩
theorem ig_QN {a b : Nat} {v w bits : Int32} {hm ch s9 s10 b9 : Nat → Int32} (K : ig_K a b v w bits hm ch s9 s10) {k : Nat} (hk : k ≤ 2) (h9 : ∀ j, j < 2 - k → b9 j = s9 (j + k)) (hl : ∀ j, j < 2 - k → ¬ b9 j = nI a) :
    ig_put ch (ig_sec a b) (fun j => ig_ck (nI (ig_sec a b j)) (s10 j)) k a = ig_ck (nI a) (ig_put hm (ig_sec a b) s10 k a) ∧ ig_Q a b v w (ig_put hm (ig_sec a b) s10 k a) := by
  have g := ig_good K hk (i := a) K.1
  obtain ⟨ha, hb, hH, hC, h90, h91, h100, h101⟩ := K
  have hk0 : ¬ k = 0 := by
    intro z
    subst z
    exact hl 0 (by omega) (by rw [h9 0 (by omega), h90])
  refine ⟨g.mpr (fun z => absurd z hk0), ?_⟩
  clear g
  match k, hk with
  | 0, _ => exact absurd rfl hk0
  | 1, _ =>
    have n1 := hl 0 (by omega)
    rw [h9 0 (by omega), h91] at n1
    show ig_Q a b v w (upd hm a (s10 0) a)
    rw [pk_us, h100]
    exact ⟨fun z => absurd z.symm n1, fun _ => rfl⟩
  | 2, _ =>
    show ig_Q a b v w (upd (upd hm a (s10 0)) b (s10 1) a)
    by_cases e : a = b
    · have t : upd (upd hm a (s10 0)) b (s10 1) a = w := by rw [e, pk_us, h101]
      rw [t]
      exact ⟨fun _ => rfl, fun z => absurd (by rw [e]) z⟩
    · rw [pk_un e, pk_us, h100]
      exact ⟨fun z => absurd ((nI_eq (by omega) (by omega)).mp z) e, fun _ => rfl⟩
end
section
/-! ===== the law ===== -/
section
variable {post : Int32 → St0 → Prop} {mc ms kc ks : Nat} {a b k : Nat} {v w bits n z0 z1 z2 n' : Int32} {a1 a2 a3 a4 a5 a6 a7 a8 a9 a10 : Nat → Int32}
theorem ig_249 (hp : post 1 ()) (ha : a < 12) (hk : k ≤ 2) (hz : z1 = z0) (hN : (∀ j, j < 2 - k → ¬ a9 j = nI a) → a2 a = ig_ck (nI a) (a1 a)) : wL_lawOf_249 post mc ms (nI a) (nI k) z0 z1 kc ks n' n' (nI (2 - k)) (nI k) a1 a2 a3 a4 a5 a6 a7 a8 a9 a10 := by
  unfold wL_lawOf_249
  refine br_t hz (ig_readable a (2 - k) ha (by omega) hN (br_f (by decide) ?_))
  unfold wpX_pending
  refine br_t (pk_sub (a := 2) hk).symm ?_
  unfold wpX_durable
  exact br_t rfl hp
theorem ig_225 (hp : post 1 ()) (ha : a < 12) (hk : k ≤ 2) (hz : z1 = z0) (hS : ∀ j, j < 2 - k → a9 j = nI a → (∀ i, j < i → i < 2 - k → ¬ a9 i = nI a) → ig_Q a b v w (a10 j)) (hN : (∀ j, j < 2 - k → ¬ a9 j = nI a) → a2 a = ig_ck (nI a) (a1 a) ∧ ig_Q a b v w (a1 a)) : wL_lawOf_225 post mc ms v w (nI a) (nI b) (nI k) z0 z1 kc ks n' n' (nI (2 - k)) (nI k) a1 a2 a3 a4 a5 a6 a7 a8 a9 a10 := by
  unfold wL_lawOf_225
  exact br_t hz (ig_read a (2 - k) ha (by omega)
    (fun j hj hp' hl => br_c (fun e => ig_249 hp ha hk ((hS j hj hp' hl).1 e) (fun hl => (hN hl).1)) (fun e => ig_249 hp ha hk ((hS j hj hp' hl).2 e) (fun hl => (hN hl).1)))
    (fun hl => ⟨(hN hl).1, br_c (fun e => ig_249 hp ha hk ((hN hl).2.1 e) (fun hl => (hN hl).1)) (fun e => ig_249 hp ha hk ((hN hl).2.2 e) (fun hl => (hN hl).1))⟩))
theorem ig_189 (hp : post 1 ()) (K : ig_K a b v w bits a1 a2 a9 a10) (hn : ig_C n k) (hz : z0 = nI k) : wL_lawOf_189 post mc ms v w bits n (nI a) (nI b) z0 kc ks 0 0 2 0 a1 a2 a3 a4 a5 a6 a7 a8 a9 a10 := by
  have hk : k ≤ 2 := by
    rcases hn with ⟨_, h⟩ | ⟨_, _, h, _⟩ | ⟨_, _, h⟩ <;> omega
  have s9 : ∀ j, j < k → a9 j = nI (ig_sec a b j) := by
    intro j hj
    rcases (show j = 0 ∨ j = 1 by omega) with e | e
    · rw [e]; exact K.2.2.2.2.1
    · rw [e]; exact K.2.2.2.2.2.1
  have s12 : ∀ j, j < k → ig_sec a b j < 12 := by
    intro j hj
    rcases (show j = 0 ∨ j = 1 by omega) with e | e
    · rw [e]; exact K.1
    · rw [e]; exact K.2.1
  subst hz
  unfold wL_lawOf_189
  refine ig_flush hn (fun n' b3 b4 b5 b6 b7 b8 b9 b10 hJ h9 h10 => br_t rfl ?_)
  refine ig_scrub (f := ig_scF a k bits) (sec := ig_sec a b) hk hJ s9 s12 (fun i hi g => ig_scF0 ((ig_good K hk hi).mp g)) (fun i hi g => ig_scF1 (fun z => g ((ig_good K hk hi).mpr z))) ?_
  have M : ∀ z, ig_sc k bits = z → wL_lawOf_225 post mc ms v w (nI a) (nI b) (nI k) z (ig_sum (ig_scF a k bits) 12) kc ks n' n' (nI (2 - k)) (nI k) (ig_put a1 (ig_sec a b) a10 k) (ig_put a2 (ig_sec a b) (fun j => ig_ck (nI (ig_sec a b j)) (a10 j)) k) b3 b4 b5 b6 b7 b8 b9 b10 := fun z hz =>
    ig_225 hp K.1 hk (by rw [ig_scSum K.1, hz]) (fun j hj h hl => ig_QS K hk h9 h10 hj h hl) (fun hl => ig_QN K hk h9 hl)
  refine br_c (fun e => ?_) (fun e => M 0 ?_)
  · have k0 : k = 0 := (nI_eq (b := 0) (by omega) (by omega)).mp e
    refine br_c (fun e2 => M 0 ?_) (fun e2 => M 1 ?_)
    · unfold ig_sc
      rw [if_pos k0, if_pos e2]
    · unfold ig_sc
      rw [if_pos k0, if_neg e2]
  · unfold ig_sc
    rw [if_neg (fun z => e (by rw [z]; rfl))]
theorem ig_162 (hp : post 1 ()) (K : ig_K a b v w bits a1 a2 a9 a10) (hz : z2 = z1 + z0) : wL_lawOf_162 post mc ms v w bits n (nI a) (nI b) z0 z1 z2 kc ks 0 0 2 0 a1 a2 a3 a4 a5 a6 a7 a8 a9 a10 := by
  unfold wL_lawOf_162
  refine br_t hz (br_c (fun h1 => br_c (fun h2 => ?_) (fun h2 => ig_189 (k := 2) hp K (Or.inr (Or.inr ⟨h1, h2, rfl⟩)) rfl)) (fun h1 => ig_189 (k := 0) hp K (Or.inl ⟨h1, rfl⟩) rfl))
  obtain ⟨k, hk, e⟩ := nI_of2 (x := n) (M := 2) (n := 2) (by decide) (Int32.not_lt.mpr h1) h2
  exact ig_189 (k := k) hp K (Or.inr (Or.inl ⟨h1, h2, hk, e⟩)) e
theorem ig_135 (hp : post 1 ()) (K : ig_K a b v w bits a1 a2 a9 a10) (h1 : z1 = ig_one v w bits (nI a) (nI b)) (h2 : z0 = ig_two w (nI a) (nI b)) : wL_lawOf_135 post mc ms v w bits n (nI a) (nI b) z1 z0 kc ks 0 0 2 0 a1 a2 a3 a4 a5 a6 a7 a8 a9 a10 := by
  have hs : ig_sum (ig_rk a b v w bits) 12 = z1 + z0 := by rw [ig_rkSum K.1 K.2.1, h1, h2]
  have c1 : ¬ z1 = 0 → z1 = 1 := by
    rw [h1]
    unfold ig_one
    intro h
    repeat' split at h
    all_goals first | exact absurd rfl h | skip
    all_goals (repeat' split) <;> first | rfl | contradiction
  have c0 : ¬ z0 = 0 → z0 = 1 := by
    rw [h2]
    unfold ig_two
    intro h
    repeat' split at h
    all_goals first | exact absurd rfl h | skip
    all_goals (repeat' split) <;> first | rfl | contradiction
  have M : ∀ y1, z1 = y1 → wL_lawOf_152 post mc ms v w bits n (nI a) (nI b) z0 y1 (ig_sum (ig_rk a b v w bits) 12) kc ks 0 0 2 0 a1 a2 a3 a4 a5 a6 a7 a8 a9 a10 := by
    intro y1 hy
    unfold wL_lawOf_152
    exact br_c (fun e => ig_162 hp K (by rw [hs, hy, e])) (fun e => ig_162 hp K (by rw [hs, hy, c0 e]))
  unfold wL_lawOf_135
  exact ig_atRisk (f := ig_rk a b v w bits) 2 (by omega) (fun i j hi hj h hl => ig_rkS K hi hj h hl) (fun i hi hl => ig_rkN K hl) (br_c (fun e => M 0 e) (fun e => M 1 (c1 e)))
theorem ig_117 (hp : post 1 ()) (K : ig_K a b v w bits a1 a2 a9 a10) (h1 : z1 = ig_one v w bits (nI a) (nI b)) : wL_lawOf_117 post mc ms v w bits n (nI a) (nI b) z1 kc ks 0 0 2 0 a1 a2 a3 a4 a5 a6 a7 a8 a9 a10 := by
  unfold wL_lawOf_117
  refine br_c (fun e => ig_135 hp K h1 ?_) (fun e => br_c (fun e2 => ig_135 hp K h1 ?_) (fun e2 => ig_135 hp K h1 ?_))
  · unfold ig_two
    rw [if_pos e]
  · unfold ig_two
    rw [if_neg e, if_pos e2]
  · unfold ig_two
    rw [if_neg e, if_neg e2]
theorem ig_74 (hp : post 1 ()) (K : ig_K a b v w bits a1 a2 a9 a10) (hz : z1 = z0) : wL_lawOf_74 post mc ms v w bits n (nI a) (nI b) z0 z1 kc ks 0 0 2 0 a1 a2 a3 a4 a5 a6 a7 a8 a9 a10 := by
  unfold wL_lawOf_74
  refine br_t hz (br_c (fun e => br_c (fun e1 => br_c (fun e2 => ig_117 hp K ?_) (fun e2 => ig_117 hp K ?_)) (fun e1 => ig_117 hp K ?_)) (fun e => br_c (fun e1 => br_c (fun e2 => ig_117 hp K ?_) (fun e2 => ig_117 hp K ?_)) (fun e1 => ig_117 hp K ?_)))
  · unfold ig_one
    rw [if_pos e, if_pos e1, if_pos e2]
  · unfold ig_one
    rw [if_pos e, if_pos e1, if_neg e2]
  · unfold ig_one
    rw [if_pos e, if_neg e1]
  · unfold ig_one
    rw [if_neg e, if_pos e1, if_pos e2]
  · unfold ig_one
    rw [if_neg e, if_pos e1, if_neg e2]
  · unfold ig_one
    rw [if_neg e, if_neg e1]
end
theorem ig_lawOf {post : Int32 → St0 → Prop} (hp : post 1 ()) (s v t w bits n : Int32) : wpL_lawOf post 11 198 () s v t w bits n := by
  obtain ⟨a, ha, ea⟩ := ig_mod s
  obtain ⟨b, hb, eb⟩ := ig_mod t
  unfold wpL_lawOf
  refine ⟨by omega, by omega, 10, 184, by omega, by omega, ig_init (by omega) (by omega) (fun ch sn hC => ⟨by decide, nm_r ea ⟨by decide, nm_r eb ?_⟩⟩)⟩
  refine ig_write a 0 ha (by omega) (br_t rfl (ig_write b 1 hb (by omega) (br_t rfl ?_)))
  have K : ig_K a b v w bits (upd (fun _ => 0) a ((fun _ => 0) a ^^^ bits)) ch (upd (upd (fun _ => 0) 0 (nI a)) 1 (nI b)) (upd (upd (fun _ => 0) 0 v) 1 w) := by
    refine ⟨ha, hb, fun i => ?_, hC, ?_, pk_us, ?_, pk_us⟩
    · by_cases e : i = a
      · rw [e, pk_us, if_pos rfl]
        exact Int32.zero_xor
      · rw [pk_un e, if_neg e]
    · rw [pk_un (by omega), pk_us]
    · rw [pk_un (by omega), pk_us]
  exact ig_damage a ha (hC a ha) (fun e => br_t e (ig_74 hp K rfl)) (fun e => br_f e (ig_74 hp K rfl))
theorem i_vc (xs : Nat → Int32) (L : Nat) (hL : L ≤ 6) : wpL_law (fun r => r = 1) L xs := by
  unfold wpL_law
  exact ig_cell 0 (by omega) hL (fun r1 => ig_cell 1 (by omega) hL (fun r2 => ig_cell 2 (by omega) hL (fun r3 => ig_cell 3 (by omega) hL (fun r4 => ig_cell 4 (by omega) hL (fun r5 => ig_cell 5 (by omega) hL (fun r6 => ⟨11, 198, by omega, by omega, ig_lawOf rfl r1 r2 r3 r4 r5 r6⟩))))))
end
