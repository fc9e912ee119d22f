section
/-- n walkers in one cell: at vertex c, with start x -/
def wk_E (c x : Nat) (n : Int32) (j : Nat) : Int32 := if j = c * 8 + x then n else 0
/-- the array holds just these walkers -/
def wk_H (c x : Nat) (n : Int32) (a : Nat → Int32) : Prop := ∀ j, j < 64 → a j = wk_E c x n j
/-- q is added where bit w of m is set -/
def wk_ad (m : Int32) (w : Nat) (p q : Int32) : Int32 := if ((m >>> (nI w &&& 31)) &&& 1) = 0 then p else p + q
/-- the law's graph: ends of edges, beginnings of edges -/
def wk_o (i : Nat) : Int32 := if i = 0 then 2 else if i = 8 then 2 else if i = 1 then 4 else if i = 2 then 1 else 0
def wk_i (i : Nat) : Int32 := if i = 1 then 1 else if i = 9 then 1 else if i = 2 then 2 else if i = 0 then 4 else 0
def wk_M (k i : Nat) : Int32 := if k = 0 then wk_o i else wk_i i
def wk_G (a2 a3 : Nat → Int32) : Prop := (∀ i, i < 16 → a2 i = wk_o i) ∧ (∀ i, i < 16 → a3 i = wk_i i)
/-- where a step of kind k leads from c; whether along two edges; how many then walk -/
def wk_nx (k c : Nat) : Nat := if k = 0 then (c + 1) % 3 else (c + 2) % 3
def wk_db (k c : Nat) : Bool := (k == 0 && c == 0) || (k == 1 && c == 1)
def wk_mu (k c : Nat) (n : Int32) : Int32 := if wk_db k c = true then n + n else n
theorem wk_ix (v s : Nat) : nI v * 8 + nI s = nI (v * 8 + s) := by
  rw [show (8 : Int32) = nI 8 from rfl, pk_mul, nI_add]
theorem wk_ad0 : ∀ w, w < 8 → (((0 : Int32) >>> (nI w &&& 31)) &&& 1) = 0 := by decide +kernel
theorem wk_adZ {w : Nat} (hw : w < 8) (p q : Int32) : wk_ad 0 w p q = p := by
  unfold wk_ad
  rw [if_pos (wk_ad0 w hw)]
theorem wk_adQ (m : Int32) (w : Nat) (p : Int32) : wk_ad m w p 0 = p := by
  unfold wk_ad
  by_cases h : ((m >>> (nI w &&& 31)) &&& 1) = 0
  · rw [if_pos h]
  · rw [if_neg h, Int32.add_zero]
theorem wk_bits : ∀ k, k < 2 → ∀ c, c < 3 → ∀ w, w < 8 → (((((wk_M k c) >>> (nI w &&& 31)) &&& 1) = 0 ↔ ¬ w = wk_nx k c) ∧ ((((wk_M k (8 + c)) >>> (nI w &&& 31)) &&& 1) = 0 ↔ ¬ (w = wk_nx k c ∧ wk_db k c = true))) := by decide +kernel
theorem wk_nx3 : ∀ k, k < 2 → ∀ c, c < 3 → wk_nx k c < 3 := by decide
/-- one step of a single carry -/
theorem wk_cs {a6 a7 s : Nat → Int32} {v w i : Nat} (hw : w < 8) (hi : i < 8) (h : ∀ j, j < 64 → s j = if j / 8 = w ∧ j % 8 < i then a6 j + a7 (v * 8 + j % 8) else a6 j) : ∀ j, j < 64 → upd s (w * 8 + i) (s (w * 8 + i) + a7 (v * 8 + i)) j = if j / 8 = w ∧ j % 8 < i + 1 then a6 j + a7 (v * 8 + j % 8) else a6 j := by
  intro j hj
  by_cases e : j = w * 8 + i
  · subst e
    have e1 : (w * 8 + i) / 8 = w := by omega
    have e2 : (w * 8 + i) % 8 = i := by omega
    rw [pk_us, h _ hj, e1, e2, if_neg (by omega), if_pos (by omega)]
  · rw [pk_un e, h j hj]
    by_cases c : j / 8 = w ∧ j % 8 < i
    · rw [if_pos c, if_pos (by omega)]
    · rw [if_neg c, if_neg (by omega)]
/-- the walkers of the vertex c, told along the edges of both labels -/
theorem wk_D {k c x : Nat} {n : Int32} (hk : k < 2) (hc : c < 3) (hx : x < 8) {j : Nat} (hj : j < 64) :
    wk_ad (wk_M k (8 + c)) (j / 8) (wk_ad (wk_M k c) (j / 8) 0 (wk_E c x n (c * 8 + j % 8))) (wk_E c x n (c * 8 + j % 8)) = wk_E (wk_nx k c) x (wk_mu k c n) j := by
  have hn := wk_nx3 k hk c hc
  obtain ⟨b0, b1⟩ := wk_bits k hk c hc (j / 8) (by omega)
  unfold wk_ad
  by_cases e : j / 8 = wk_nx k c
  · rw [if_neg (fun z => (b0.mp z) e), Int32.zero_add]
    unfold wk_E wk_mu
    by_cases ex : j % 8 = x
    · rw [if_pos (show c * 8 + j % 8 = c * 8 + x by omega), if_pos (show j = wk_nx k c * 8 + x by omega)]
      by_cases d : wk_db k c = true
      · rw [if_neg (fun z => (b1.mp z) ⟨e, d⟩), if_pos d]
      · rw [if_pos (b1.mpr (fun z => d z.2)), if_neg d]
    · rw [if_neg (show ¬ c * 8 + j % 8 = c * 8 + x by omega), if_neg (show ¬ j = wk_nx k c * 8 + x by omega)]
      by_cases d : ((wk_M k (8 + c) >>> (nI (j / 8) &&& 31)) &&& 1) = 0
      · rw [if_pos d]
      · rw [if_neg d, Int32.add_zero]
  · rw [if_pos (b0.mpr e), if_pos (b1.mpr (fun z => e z.1))]
    unfold wk_E
    rw [if_neg (show ¬ j = wk_nx k c * 8 + x by omega)]
/-- the walkers of another vertex: there are none -/
theorem wk_Z {c x v : Nat} {n : Int32} (hx : x < 8) (h : ¬ v = c) (j : Nat) : wk_E c x n (v * 8 + j % 8) = 0 := by
  unfold wk_E
  rw [if_neg (by omega)]
/-- the starting cells -/
theorem wk_s1 : ∀ x, x < 3 → ∀ i, i < 64 → nI i / 8 = nI i - nI i / 8 * 8 → ((((1 : Int32) <<< (nI x &&& 31)) >>> ((nI i - nI i / 8 * 8) &&& 31)) &&& 1 = 0 ↔ ¬ i = x * 8 + x) := by decide +kernel
theorem wk_s2 : ∀ x, x < 3 → ∀ i, i < 64 → ¬ nI i / 8 = nI i - nI i / 8 * 8 → ¬ i = x * 8 + x := by decide +kernel
theorem wk_fill {f s : Nat → Int32} {i k : Nat} {y : Int32} (hk : k = i) (h : ∀ j, j < i → s j = f j) (hy : y = f i) : ∀ j, j < i + 1 → upd s k y j = f j := by
  intro j hj
  rw [hk]
  by_cases e : j = i
  · rw [e, pk_us, hy]
  · rw [pk_un e]
    exact h j (by omega)
/-- a count over the cells below i -/
theorem wk_sum {c x i : Nat} {n : Int32} : (if c * 8 + x < i then n else 0) + wk_E c x n i = if c * 8 + x < i + 1 then n else 0 := by
  unfold wk_E
  by_cases h : i = c * 8 + x
  · rw [if_neg (by omega), if_pos h, if_pos (by omega), Int32.zero_add]
  · rw [if_neg h, Int32.add_zero]
    by_cases h' : c * 8 + x < i
    · rw [if_pos h', if_pos (by omega)]
    · rw [if_neg h', if_neg (by omega)]
theorem wk_sumR {c x v i : Nat} {n : Int32} (hx : x < 8) (hi : i < 8) : (if v = c ∧ x < i then n else 0) + wk_E c x n (v * 8 + i) = if v = c ∧ x < i + 1 then n else 0 := by
  unfold wk_E
  by_cases h : v * 8 + i = c * 8 + x
  · rw [if_neg (by omega), if_pos h, if_pos (by omega), Int32.zero_add]
  · rw [if_neg h, Int32.add_zero]
    by_cases h' : v = c ∧ x < i
    · rw [if_pos h', if_pos (by omega)]
    · rw [if_neg h', if_neg (by omega)]
end
section
section
variable {ec sz st kn : Int32} {a1 a2 a3 a4 a5 a6 a7 a8 : Nat → Int32}
theorem wk_carry {post : St2 → Prop} {v w : Nat} (hv : v < 8) (hw : w < 8)
    (H : ∀ a, (∀ j, j < 64 → a j = if j / 8 = w then a6 j + a7 (v * 8 + j % 8) else a6 j) → post (ec, sz, st, kn, a1, a2, a3, a4, a5, a, a7, a8)) :
    wpX_carry post (ec, sz, st, kn, a1, a2, a3, a4, a5, a6, a7, a8) (nI v) (nI w) := by
  unfold wpX_carry
  dsimp only
  refine pk_loop (fun n i s => wX_carry_2 post (nI v) (nI w) ec sz st kn n (nI i) a1 a2 a3 a4 a5 s a7 a8) (fun i s => ∀ j, j < 64 → s j = if j / 8 = w ∧ j % 8 < i then a6 j + a7 (v * 8 + j % 8) else a6 j) 8 0 a6 (by omega) ?_ ?_ ?_
  · intro j hj
    rw [if_neg (by omega)]
  · intro n s h
    refine pk_le 8 8 (fun _ => H s (fun j hj => ?_)) (fun z => absurd z (by omega))
    rw [h j hj]
    by_cases e : j / 8 = w
    · rw [if_pos (by omega), if_pos e]
    · rw [if_neg (by omega), if_neg e]
  · intro n i s hi h hk
    refine pk_le 8 i (fun z => absurd z (by omega)) (fun _ => ⟨pk_in (w * 8 + i) 64 (by omega) (wk_ix w i), pk_in (v * 8 + i) 64 (by omega) (wk_ix v i), pk_in (w * 8 + i) 64 (by omega) (wk_ix w i), ?_⟩)
    refine nm_r (e' := upd s (w * 8 + i) (s (w * 8 + i) + a7 (v * 8 + i))) ?_ (nm_r (nI_1 i) (hk _ (wk_cs hw hi h)))
    rw [wk_ix, wk_ix, nI_clamp (by omega), nI_clamp (by omega)]
theorem wk_76 {post : St2 → Prop} {J : Int32 → Int32 → Int32 → Int32 → Int32 → (Nat → Int32) → (Nat → Int32) → (Nat → Int32) → (Nat → Int32) → (Nat → Int32) → (Nat → Int32) → (Nat → Int32) → (Nat → Int32) → Prop} {f g : Int32} {v i : Nat} (hv : v < 8) (hi : i < 8)
    (H : ∀ a, (∀ j, j < 64 → a j = if j / 8 = i then wk_ad g i (a6 j) (a7 (v * 8 + j % 8)) else a6 j) → J (nI (i + 1)) ec sz st kn a1 a2 a3 a4 a5 a a7 a8) :
    wX_spread_76 post J (nI v) f g (nI i) ec sz st kn a1 a2 a3 a4 a5 a6 a7 a8 := by
  unfold wX_spread_76
  refine br_c (fun z => nm_r (nI_1 i) (H a6 (fun j hj => ?_))) (fun z => wk_carry hv hi (fun a ha => nm_r (nI_1 i) (H a (fun j hj => ?_))))
  · unfold wk_ad
    rw [if_pos z]
    by_cases e : j / 8 = i
    · rw [if_pos e]
    · rw [if_neg e]
  · unfold wk_ad
    rw [if_neg z]
    exact ha j hj
theorem wk_52 {post : St2 → Prop} {f g : Int32} {v : Nat} (hv : v < 8)
    (H : ∀ a, (∀ j, j < 64 → a j = wk_ad g (j / 8) (wk_ad f (j / 8) (a6 j) (a7 (v * 8 + j % 8))) (a7 (v * 8 + j % 8))) → post (ec, sz, st, kn, a1, a2, a3, a4, a5, a, a7, a8)) :
    ∃ n, wX_spread_52 post (nI v) f g n 0 ec sz st kn a1 a2 a3 a4 a5 a6 a7 a8 := by
  refine pk_loop (fun n i s => wX_spread_52 post (nI v) f g n (nI i) ec sz st kn a1 a2 a3 a4 a5 s a7 a8) (fun i s => ∀ j, j < 64 → s j = if j / 8 < i then wk_ad g (j / 8) (wk_ad f (j / 8) (a6 j) (a7 (v * 8 + j % 8))) (a7 (v * 8 + j % 8)) else a6 j) 8 0 a6 (by omega) ?_ ?_ ?_
  · intro j hj
    rw [if_neg (by omega)]
  · intro n s h
    refine pk_le 8 8 (fun _ => H s (fun j hj => ?_)) (fun z => absurd z (by omega))
    rw [h j hj, if_pos (by omega)]
  · intro n i s hi h hk
    have K : ∀ s1 : Nat → Int32, (∀ j, j < 64 → s1 j = if j / 8 = i then wk_ad f i (s j) (a7 (v * 8 + j % 8)) else s j) → wX_spread_76 post (wX_spread_52 post (nI v) f g n) (nI v) f g (nI i) ec sz st kn a1 a2 a3 a4 a5 s1 a7 a8 := by
      intro s1 h1
      refine wk_76 hv hi (fun a ha => hk a (fun j hj => ?_))
      rw [ha j hj, h1 j hj, h j hj]
      by_cases e : j / 8 = i
      · rw [if_pos e, if_pos e, if_neg (by omega), if_pos (by omega), e]
      · rw [if_neg e, if_neg e]
        by_cases e' : j / 8 < i
        · rw [if_pos e', if_pos (by omega)]
        · rw [if_neg e', if_neg (by omega)]
    refine pk_le 8 i (fun z => absurd z (by omega)) (fun _ => br_c (fun z => K s (fun j hj => ?_)) (fun z => wk_carry hv hi (fun a ha => K a (fun j hj => ?_))))
    · unfold wk_ad
      rw [if_pos z]
      by_cases e : j / 8 = i
      · rw [if_pos e]
      · rw [if_neg e]
    · unfold wk_ad
      rw [if_neg z]
      exact ha j hj
theorem wk_spread {post : St2 → Prop} {k v l : Nat} (hk : k < 2) (hv : v < 8) (hl : l < 2) (g : wk_G a2 a3)
    (H : ∀ a, (∀ j, j < 64 → a j = wk_ad (wk_M k (l * 8 + v)) (j / 8) (a6 j) (a7 (v * 8 + j % 8))) → post (ec, sz, st, kn, a1, a2, a3, a4, a5, a, a7, a8)) :
    wpX_spread post (ec, sz, st, kn, a1, a2, a3, a4, a5, a6, a7, a8) (nI k) (nI v) (nI l) := by
  unfold wpX_spread
  dsimp only
  rw [wk_ix, nI_clamp (by omega), g.1 _ (by omega)]
  refine pk_eq k 1 (fun z => ?_) (fun z => ⟨pk_in (l * 8 + v) 16 (by omega), ?_⟩)
  · unfold wX_spread_20
    refine br_t (by rw [z]; rfl) ?_
    unfold wX_spread_32
    rw [wk_ix, nI_clamp (by omega), g.2 _ (by omega)]
    refine ⟨pk_in (l * 8 + v) 16 (by omega), nm_e (wk_52 hv (fun a ha => H a (fun j hj => ?_)))⟩
    rw [ha j hj, wk_adZ (by omega)]
    unfold wk_M
    rw [if_neg (by omega)]
  · have hk0 : k = 0 := by omega
    subst hk0
    unfold wX_spread_20
    refine br_f (by decide) (br_f (by decide) (wk_52 hv (fun a ha => H a (fun j hj => ?_))))
    rw [ha j hj, wk_adZ (by omega)]
    unfold wk_M
    rw [if_pos rfl]
end
end
section
section
variable {ec sz st kn : Int32} {a1 a2 a3 a4 a5 a6 a7 a8 : Nat → Int32}
theorem wk_44 {post : St2 → Prop} {J : Int32 → Int32 → Int32 → Int32 → Int32 → (Nat → Int32) → (Nat → Int32) → (Nat → Int32) → (Nat → Int32) → (Nat → Int32) → (Nat → Int32) → (Nat → Int32) → (Nat → Int32) → Prop} {k v : Nat} (hk : k < 2) (hv : v < 8) (g : wk_G a2 a3)
    (H : ∀ a, (∀ j, j < 64 → a j = wk_ad (wk_M k (8 + v)) (j / 8) (wk_ad (wk_M k v) (j / 8) (a6 j) (a7 (v * 8 + j % 8))) (a7 (v * 8 + j % 8))) → J (nI (v + 1)) ec sz st kn a1 a2 a3 a4 a5 a a7 a8) :
    ∃ n, wX_move_44 post J (nI k) 2 (nI v) n 0 ec sz st kn a1 a2 a3 a4 a5 a6 a7 a8 := by
  refine pk_loop (fun n i s => wX_move_44 post J (nI k) 2 (nI v) n (nI i) ec sz st kn a1 a2 a3 a4 a5 s a7 a8) (fun i s => ∀ j, j < 64 → s j = if i = 0 then a6 j else if i = 1 then wk_ad (wk_M k v) (j / 8) (a6 j) (a7 (v * 8 + j % 8)) else wk_ad (wk_M k (8 + v)) (j / 8) (wk_ad (wk_M k v) (j / 8) (a6 j) (a7 (v * 8 + j % 8))) (a7 (v * 8 + j % 8))) 2 0 a6 (by omega) ?_ ?_ ?_
  · intro j hj
    rw [if_pos rfl]
  · intro n s h
    refine pk_le 2 2 (fun _ => pk_eq k 3 (fun z => absurd z (by omega)) (fun _ => nm_r (nI_1 v) (H s (fun j hj => ?_)))) (fun z => absurd z (by omega))
    rw [h j hj, if_neg (by omega), if_neg (by omega)]
  · intro n i s hi h hw
    refine pk_le 2 i (fun z => absurd z (by omega)) (fun _ => br_t rfl ?_)
    unfold wX_move_61
    refine wk_spread hk hv hi g (fun a ha => nm_r (nI_1 i) (hw a (fun j hj => ?_)))
    rw [ha j hj, h j hj]
    by_cases e : i = 0
    · subst e
      rw [if_pos rfl, if_neg (by omega), if_pos (by omega), show 0 * 8 + v = v by omega]
    · have e1 : i = 1 := by omega
      subst e1
      rw [if_neg (by omega), if_pos rfl, if_neg (by omega), if_neg (by omega), show 1 * 8 + v = 8 + v by omega]
theorem wk_35 {post : St2 → Prop} {k c x : Nat} {n : Int32} (hk : k < 2) (hc : c < 3) (hx : x < 8) (g : wk_G a2 a3) (h7 : wk_H c x n a7) (h6 : ∀ j, j < 64 → a6 j = 0)
    (H : ∀ a, wk_H (wk_nx k c) x (wk_mu k c n) a → post (ec, sz, st, kn, a1, a2, a3, a4, a5, a, a7, a8)) :
    ∃ f, wX_move_35 post (nI k) 2 f 0 ec sz st kn a1 a2 a3 a4 a5 a6 a7 a8 := by
  refine pk_loop (fun f i s => wX_move_35 post (nI k) 2 f (nI i) ec sz st kn a1 a2 a3 a4 a5 s a7 a8) (fun i s => ∀ j, j < 64 → s j = if c < i then wk_E (wk_nx k c) x (wk_mu k c n) j else 0) 8 0 a6 (by omega) ?_ ?_ ?_
  · intro j hj
    rw [if_neg (by omega), h6 j hj]
  · intro f s h
    refine pk_le 8 8 (fun _ => H s (fun j hj => ?_)) (fun z => absurd z (by omega))
    rw [h j hj, if_pos (by omega)]
  · intro f i s hi h hw
    refine pk_le 8 i (fun z => absurd z (by omega)) (fun _ => wk_44 hk hi g (fun a ha => hw a (fun j hj => ?_)))
    rw [ha j hj, h7 (i * 8 + j % 8) (by omega), h j hj]
    by_cases e : i = c
    · subst e
      rw [if_neg (by omega), if_pos (by omega)]
      exact wk_D hk hc hx hj
    · rw [wk_Z hx e j, wk_adQ, wk_adQ]
      by_cases e' : c < i
      · rw [if_pos e', if_pos (by omega)]
      · rw [if_neg e', if_neg (by omega)]
theorem wk_move {post : St2 → Prop} {k c x : Nat} {n : Int32} (hk : k < 2) (hc : c < 3) (hx : x < 8) (g : wk_G a2 a3) (h6 : wk_H c x n a6)
    (H : ∀ a b, wk_H (wk_nx k c) x (wk_mu k c n) a → post (ec, sz, st, kn, a1, a2, a3, a4, a5, a, b, a8)) :
    wpX_move post (ec, sz, st, kn, a1, a2, a3, a4, a5, a6, a7, a8) (nI k) 2 := by
  unfold wpX_move
  dsimp only
  refine pk_loop (σ := (Nat → Int32) × (Nat → Int32)) (fun f i s => wX_move_2 post (nI k) 2 ec sz st kn f (nI i) a1 a2 a3 a4 a5 s.1 s.2 a8) (fun i s => (∀ j, j < 64 → s.1 j = if j < i then 0 else a6 j) ∧ (∀ j, j < i → s.2 j = a6 j)) 64 0 (a6, a7) (by omega) ?_ ?_ ?_
  · exact ⟨fun j hj => by rw [if_neg (by omega)], fun j hj => absurd hj (by omega)⟩
  · intro f s h
    refine pk_le 64 64 (fun _ => wk_35 hk hc hx g (fun j hj => ?_) (fun j hj => ?_) (fun a ha => H a s.2 ha)) (fun z => absurd z (by omega))
    · rw [h.2 j hj, h6 j hj]
    · rw [h.1 j hj, if_pos hj]
  · intro f i s hi h hw
    refine pk_le 64 i (fun z => absurd z (by omega)) (fun _ => ⟨pk_in i 64 hi, pk_in i 64 hi, ?_⟩)
    refine nm_r (e' := upd s.2 i (s.1 i)) (by rw [nI_clamp (by omega)]) ⟨pk_in i 64 hi, ?_⟩
    refine nm_r (e' := upd s.1 i 0) (by rw [nI_clamp (by omega)]) (nm_r (nI_1 i) (hw (upd s.1 i 0, upd s.2 i (s.1 i)) ⟨fun j hj => ?_, wk_fill rfl h.2 ?_⟩))
    · show upd s.1 i 0 j = _
      by_cases e : j = i
      · subst e
        rw [pk_us, if_pos (by omega)]
      · rw [pk_un e, h.1 j hj]
        by_cases e' : j < i
        · rw [if_pos e', if_pos (by omega)]
        · rw [if_neg e', if_neg (by omega)]
    · rw [h.1 i hi, if_neg (by omega)]
theorem wk_total {post : Int32 → Prop} {c x : Nat} {n : Int32} (hc : c < 8) (hx : x < 8) (h : wk_H c x n a6) (H : post n) :
    wpX_total post (ec, sz, st, kn, a1, a2, a3, a4, a5, a6, a7, a8) := by
  unfold wpX_total
  dsimp only
  refine pk_loop (σ := Int32) (fun f i s => wX_total_4 post ec sz st kn a1 a2 a3 a4 a5 a6 a7 a8 f s (nI i)) (fun i s => s = if c * 8 + x < i then n else 0) 64 0 0 (by omega) ?_ ?_ ?_
  · show (0 : Int32) = if c * 8 + x < 0 then n else 0
    rw [if_neg (by omega)]
  · intro f s hs
    refine pk_le 64 64 (fun _ => ?_) (fun z => absurd z (by omega))
    rw [hs, if_pos (by omega)]
    exact H
  · intro f i s hi hs hw
    refine pk_le 64 i (fun z => absurd z (by omega)) (fun _ => ⟨pk_in i 64 hi, nm_r (e' := if c * 8 + x < i + 1 then n else 0) ?_ (nm_r (nI_1 i) (hw _ rfl))⟩)
    rw [nI_clamp (by omega), h i hi, hs]
    exact wk_sum
end
end
section
section
variable {ec sz st kn : Int32} {a1 a2 a3 a4 a5 a6 a7 a8 : Nat → Int32}
theorem wk_85 {post : St2 → Prop} {f i k c x : Nat} {n : Int32} (hi : i < 2) (hk : k < 2) (hc : c < 3) (hx : x < 8) (g : wk_G a2 a3) (h4 : a4 i = nI k) (h5 : a5 i = 2) (h6 : wk_H c x n a6)
    (H : ∀ a b, wk_H (wk_nx k c) x (wk_mu k c n) a → wX_walk_85 post f (nI (i + 1)) ec (nI 2) st kn a1 a2 a3 a4 a5 a b (upd a8 (i + 1) (wk_mu k c n))) :
    wX_walk_85 post (f + 1) (nI i) ec (nI 2) st kn a1 a2 a3 a4 a5 a6 a7 a8 := by
  have hn := wk_nx3 k hk c hc
  refine pk_le 2 i (fun z => absurd z (by omega)) (fun _ => ⟨pk_in i 6 (by omega), ?_⟩)
  rw [nI_clamp (show i < 2 ^ 31 by omega), h4, h5]
  refine pk_lt 3 k (fun z => absurd z (by omega)) (fun _ => ⟨pk_in i 6 (by omega), pk_in i 6 (by omega), wk_move hk hc hx g h6 (fun a b ha => ?_)⟩)
  show wX_walk_156 post (wX_walk_85 post f) (nI i) ec (nI 2) st kn a1 a2 a3 a4 a5 a b a8
  unfold wX_walk_156
  refine wk_total (by omega) hx ha ⟨pk_in (i + 1) 7 (by omega) (nI_1 i), nm_r (e' := upd a8 (i + 1) (wk_mu k c n)) ?_ (nm_r (nI_1 i) (H a b ha))⟩
  rw [nI_1, nI_clamp (by omega)]
theorem wk_15 {post : St2 → Prop} {x k0 k1 : Nat} (hx : x < 3) (h0 : k0 < 2) (h1 : k1 < 2) (g : wk_G a2 a3) (h40 : a4 0 = nI k0) (h41 : a4 1 = nI k1) (h50 : a5 0 = 2) (h51 : a5 1 = 2)
    (H : ∀ a b d, wk_H (wk_nx k1 (wk_nx k0 x)) x (wk_mu k1 (wk_nx k0 x) (wk_mu k0 x 1)) a → d 2 = wk_mu k1 (wk_nx k0 x) (wk_mu k0 x 1) → post (ec, nI 2, (1 : Int32) <<< (nI x &&& 31), kn, a1, a2, a3, a4, a5, a, b, d)) :
    ∃ f, wX_walk_15 post ec (nI 2) ((1 : Int32) <<< (nI x &&& 31)) kn f 0 a1 a2 a3 a4 a5 a6 a7 a8 := by
  have hn := wk_nx3 k0 h0 x hx
  refine pk_loop (fun f i s => wX_walk_15 post ec (nI 2) ((1 : Int32) <<< (nI x &&& 31)) kn f (nI i) a1 a2 a3 a4 a5 s a7 a8) (fun i s => ∀ j, j < i → s j = wk_E x x 1 j) 64 0 a6 (by omega) ?_ ?_ ?_
  · exact fun j hj => absurd hj (by omega)
  · intro f s h
    refine pk_le 64 64 (fun _ => wk_total (c := x) (x := x) (n := 1) (by omega) (by omega) h (nm_e ⟨0 + 1 + 1 + 1, ?_⟩)) (fun z => absurd z (by omega))
    refine wk_85 (f := 0 + 1 + 1) (i := 0) (by omega) h0 hx (by omega) g h40 h50 h (fun a b ha => ?_)
    refine wk_85 (f := 0 + 1) (i := 0 + 1) (by omega) h1 hn (by omega) g h41 h51 ha (fun a' b' ha' => ?_)
    exact pk_le 2 2 (fun _ => H _ _ _ ha' pk_us) (fun z => absurd z (by omega))
  · intro f i s hi h hw
    have K0 : ¬ i = x * 8 + x → wX_walk_50 post (wX_walk_15 post ec (nI 2) ((1 : Int32) <<< (nI x &&& 31)) kn f) (nI i) ec (nI 2) ((1 : Int32) <<< (nI x &&& 31)) kn a1 a2 a3 a4 a5 s a7 a8 := by
      intro e
      unfold wX_walk_50 wX_walk_51
      refine br_t rfl ⟨pk_in i 64 hi, nm_e (nm_r (nI_1 i) (hw _ (wk_fill (nI_clamp (by omega)) h ?_)))⟩
      unfold wk_E
      rw [if_neg e]
    have K1 : i = x * 8 + x → wX_walk_51 post (wX_walk_15 post ec (nI 2) ((1 : Int32) <<< (nI x &&& 31)) kn f) (nI i) 1 ec (nI 2) ((1 : Int32) <<< (nI x &&& 31)) kn a1 a2 a3 a4 a5 s a7 a8 := by
      intro e
      unfold wX_walk_51
      refine br_f (by decide) ⟨pk_in i 64 hi, nm_e (nm_r (nI_1 i) (hw _ (wk_fill (nI_clamp (by omega)) h ?_)))⟩
      unfold wk_E
      rw [if_pos e]
    refine pk_le 64 i (fun z => absurd z (by omega)) (fun _ => ⟨by decide, by decide, br_c (fun z => ⟨by decide, br_c (fun y => K0 ((wk_s1 x hx i hi z).mp y)) (fun y => K1 ?_)⟩) (fun z => K0 (wk_s2 x hx i hi z))⟩)
    exact Decidable.byContradiction (fun q => y ((wk_s1 x hx i hi z).mpr q))
theorem wk_walk {post : St2 → Prop} {x k0 k1 : Nat} (hx : x < 3) (h0 : k0 < 2) (h1 : k1 < 2) (g : wk_G a2 a3) (h40 : a4 0 = nI k0) (h41 : a4 1 = nI k1) (h50 : a5 0 = 2) (h51 : a5 1 = 2)
    (H : ∀ a b d, wk_H (wk_nx k1 (wk_nx k0 x)) x (wk_mu k1 (wk_nx k0 x) (wk_mu k0 x 1)) a → d 2 = wk_mu k1 (wk_nx k0 x) (wk_mu k0 x 1) → post (ec, nI 2, (1 : Int32) <<< (nI x &&& 31), 1, a1, a2, a3, a4, a5, a, b, d)) :
    wpX_walk post (ec, nI 2, (1 : Int32) <<< (nI x &&& 31), 0, a1, a2, a3, a4, a5, a6, a7, a8) := by
  unfold wpX_walk
  dsimp only
  exact br_t rfl (wk_15 hx h0 h1 g h40 h41 h50 h51 H)
theorem wk_walk1 {post : St2 → Prop} (H : post (ec, sz, st, 1, a1, a2, a3, a4, a5, a6, a7, a8)) :
    wpX_walk post (ec, sz, st, 1, a1, a2, a3, a4, a5, a6, a7, a8) := by
  unfold wpX_walk
  dsimp only
  exact br_f (by decide) H
theorem wk_walkers {post : Int32 → St2 → Prop} {x k0 k1 : Nat} (hx : x < 3) (h0 : k0 < 2) (h1 : k1 < 2) (g : wk_G a2 a3) (h40 : a4 0 = nI k0) (h41 : a4 1 = nI k1) (h50 : a5 0 = 2) (h51 : a5 1 = 2)
    (H : ∀ a b d, wk_H (wk_nx k1 (wk_nx k0 x)) x (wk_mu k1 (wk_nx k0 x) (wk_mu k0 x 1)) a → post (wk_mu k1 (wk_nx k0 x) (wk_mu k0 x 1)) (ec, nI 2, (1 : Int32) <<< (nI x &&& 31), 1, a1, a2, a3, a4, a5, a, b, d)) :
    wpX_walkers post (ec, nI 2, (1 : Int32) <<< (nI x &&& 31), 0, a1, a2, a3, a4, a5, a6, a7, a8) := by
  unfold wpX_walkers
  dsimp only
  refine wk_walk hx h0 h1 g h40 h41 h50 h51 (fun a b d ha hd => ?_)
  refine ⟨pk_in 2 7 (by omega), ?_⟩
  dsimp only
  rw [nI_clamp (show 2 < 2 ^ 31 by omega), hd]
  exact H a b d ha
theorem wk_at {post : Int32 → St2 → Prop} {v c x : Nat} {n : Int32} (hv : v < 8) (hx : x < 8) (h : wk_H c x n a6)
    (H : post (if v = c then n else 0) (ec, sz, st, 1, a1, a2, a3, a4, a5, a6, a7, a8)) :
    wpX_at post (ec, sz, st, 1, a1, a2, a3, a4, a5, a6, a7, a8) (nI v) := by
  unfold wpX_at wpX_isVertex
  dsimp only
  refine pk_lt v 0 (fun z => absurd z (by omega)) (fun _ => pk_le 8 v (fun z => absurd z (by omega)) (fun _ => br_f (by decide) (wk_walk1 ?_)))
  refine pk_loop (σ := Int32) (fun f i s => wX_at_17 post (nI v) ec sz st 1 a1 a2 a3 a4 a5 a6 a7 a8 f s (nI i)) (fun i s => s = if v = c ∧ x < i then n else 0) 8 0 0 (by omega) ?_ ?_ ?_
  · show (0 : Int32) = if v = c ∧ x < 0 then n else 0
    rw [if_neg (by omega)]
  · intro f s hs
    refine pk_le 8 8 (fun _ => ?_) (fun z => absurd z (by omega))
    have e : s = if v = c then n else 0 := by
      rw [hs]
      by_cases q : v = c
      · rw [if_pos (by omega), if_pos q]
      · rw [if_neg (by omega), if_neg q]
    rw [e]
    exact H
  · intro f i s hi hs hw
    refine pk_le 8 i (fun z => absurd z (by omega)) (fun _ => ⟨pk_in (v * 8 + i) 64 (by omega) (wk_ix v i), nm_r (e' := if v = c ∧ x < i + 1 then n else 0) ?_ (nm_r (nI_1 i) (hw _ rfl))⟩)
    rw [wk_ix, nI_clamp (by omega), h (v * 8 + i) (by omega), hs]
    exact wk_sumR hx hi
theorem wk_reached {post : Int32 → St2 → Prop} {c x : Nat} {n : Int32} (hc : c < 8) (hx : x < 8) (hn : ¬ n ≤ 0) (h : wk_H c x n a6)
    (H : post ((1 : Int32) <<< (nI c &&& 31)) (ec, sz, st, 1, a1, a2, a3, a4, a5, a6, a7, a8)) :
    wpX_reached post (ec, sz, st, 1, a1, a2, a3, a4, a5, a6, a7, a8) := by
  unfold wpX_reached
  dsimp only
  refine pk_loop (σ := Int32) (fun f i s => wX_reached_4 post f s (nI i) ec sz st 1 a1 a2 a3 a4 a5 a6 a7 a8) (fun i s => s = if c < i then (1 : Int32) <<< (nI c &&& 31) else 0) 8 0 0 (by omega) ?_ ?_ ?_
  · show (0 : Int32) = if c < 0 then (1 : Int32) <<< (nI c &&& 31) else 0
    rw [if_neg (by omega)]
  · intro f s hs
    refine pk_le 8 8 (fun _ => ?_) (fun z => absurd z (by omega))
    rw [hs, if_pos (by omega)]
    exact H
  · intro f i s hi hs hw
    refine pk_le 8 i (fun z => absurd z (by omega)) (fun _ => wk_at hi hx h ?_)
    dsimp only
    by_cases e : i = c
    · rw [if_pos e]
      refine br_f hn (nm_r (e' := (1 : Int32) <<< (nI c &&& 31)) ?_ (nm_r (nI_1 i) (hw _ ?_)))
      · rw [hs, if_neg (by omega), e, Int32.zero_or]
      · rw [if_pos (by omega)]
    · rw [if_neg e]
      refine br_t (by decide) (nm_r (e' := s) Int32.or_zero (nm_r (nI_1 i) (hw s ?_)))
      rw [hs]
      by_cases e' : c < i
      · rw [if_pos e', if_pos (by omega)]
      · rw [if_neg e', if_neg (by omega)]
end
end
section
section
variable {ec sz st kn : Int32} {a1 a2 a3 a4 a5 a6 a7 a8 : Nat → Int32}
theorem wk_isVertex {post : Int32 → Prop} {v : Nat} (hv : v < 8) (H : post 1) : wpX_isVertex post () (nI v) := by
  unfold wpX_isVertex
  exact pk_lt v 0 (fun z => absurd z (by omega)) (fun _ => pk_le 8 v (fun z => absurd z (by omega)) (fun _ => H))
theorem wk_isEdge {post : Int32 → Prop} {a b l : Nat} (ha : a < 8) (hb : b < 8) (hab : ¬ a = b) (hl : l < 2) (H : post 1) : wpX_isEdge post () (nI a) (nI b) (nI l) := by
  unfold wpX_isEdge
  exact wk_isVertex ha (br_f (by decide) (wk_isVertex hb (br_f (by decide) (pk_eq a b (fun z => absurd z hab) (fun _ => pk_eq l 0 (fun _ => H) (fun _ => pk_eq l 1 (fun _ => H) (fun z => absurd hl (by omega))))))))
theorem wk_hasEdge {post : Int32 → Prop} {a b l : Nat} (ha : a < 8) (hl : l < 2) (he : ((a2 (l * 8 + a) >>> (nI b &&& 31)) &&& 1) = 0) (H : post 0) :
    wpX_hasEdge post (ec, sz, st, kn, a1, a2, a3, a4, a5, a6, a7, a8) (nI a) (nI b) (nI l) := by
  unfold wpX_hasEdge
  dsimp only
  rw [wk_ix, nI_clamp (by omega)]
  exact ⟨pk_in (l * 8 + a) 16 (by omega), br_t he H⟩
theorem wk_turn {post : St2 → Prop} {a b l : Nat} (ha : a < 8) (hb : b < 8) (hl : l < 2)
    (H : post (ec, sz, st, 0, a1, upd a2 (l * 8 + a) ((a2 (l * 8 + a) ^^^ ((1 : Int32) <<< (nI b &&& 31))).toInt16.toInt32), upd a3 (l * 8 + b) ((a3 (l * 8 + b) ^^^ ((1 : Int32) <<< (nI a &&& 31))).toInt16.toInt32), a4, a5, a6, a7, a8)) :
    wpX_turn post (ec, sz, st, kn, a1, a2, a3, a4, a5, a6, a7, a8) (nI a) (nI b) (nI l) := by
  unfold wpX_turn
  dsimp only
  refine nm_r (wk_ix l a) (nm_r (wk_ix l b) ?_)
  rw [nI_clamp (show l * 8 + a < 2 ^ 31 by omega), nI_clamp (show l * 8 + b < 2 ^ 31 by omega)]
  exact ⟨pk_in (l * 8 + a) 16 (by omega), pk_in (l * 8 + a) 16 (by omega), nm_e ⟨pk_in (l * 8 + b) 16 (by omega), pk_in (l * 8 + b) 16 (by omega), nm_e H⟩⟩
theorem wk_join {post : Int32 → St2 → Prop} {a b l : Nat} (ha : a < 8) (hb : b < 8) (hab : ¬ a = b) (hl : l < 2) (he : ((a2 (l * 8 + a) >>> (nI b &&& 31)) &&& 1) = 0) (hec : ec < 10)
    (H : post 1 (ec + 1, sz, st, 0, a1, upd a2 (l * 8 + a) ((a2 (l * 8 + a) ^^^ ((1 : Int32) <<< (nI b &&& 31))).toInt16.toInt32), upd a3 (l * 8 + b) ((a3 (l * 8 + b) ^^^ ((1 : Int32) <<< (nI a &&& 31))).toInt16.toInt32), a4, a5, a6, a7, a8)) :
    wpX_join post (ec, sz, st, kn, a1, a2, a3, a4, a5, a6, a7, a8) (nI a) (nI b) (nI l) := by
  unfold wpX_join
  dsimp only
  exact wk_isEdge ha hb hab hl (br_f (by decide) (wk_hasEdge ha hl he (br_t rfl (br_t hec (wk_turn ha hb hl (nm_e H))))))
theorem wk_nar : ∀ k, k < 2 → (nI k).toInt8.toInt32 = nI k := by decide
theorem wk_add {post : Int32 → St2 → Prop} {s k : Nat} (hs : s < 6) (hk : k < 2)
    (H : post (nI (s + 1)) (ec, nI (s + 1), st, 0, a1, a2, a3, upd a4 s (nI k), upd a5 s 2, a6, a7, a8)) :
    wpX_add post (ec, nI s, st, kn, a1, a2, a3, a4, a5, a6, a7, a8) (nI k) 2 := by
  unfold wpX_add
  dsimp only
  refine pk_lt k 0 (fun z => absurd z (by omega)) (fun _ => pk_lt 3 k (fun z => absurd z (by omega)) (fun _ => ?_))
  unfold wX_add_14
  refine pk_lt k 0 (fun z => absurd z (by omega)) (fun _ => pk_lt 7 k (fun z => absurd z (by omega)) (fun _ => br_f (by decide) (br_f (by decide) (br_f (by decide) ?_))))
  unfold wX_add_38
  refine pk_eq k 4 (fun z => absurd z (by omega)) (fun _ => ?_)
  unfold wX_add_55
  refine pk_lt s 6 (fun _ => ⟨pk_in s 6 hs, nm_r (e' := upd a4 s (nI k)) (by rw [nI_clamp (by omega), wk_nar k hk]) (br_f (by decide) ?_)⟩) (fun z => absurd z (by omega))
  unfold wX_add_95 wX_add_100
  exact ⟨pk_in s 6 hs, nm_r (e' := upd a5 s 2) (by rw [nI_clamp (by omega)]; rfl) (nm_r (nI_1 s) H)⟩
theorem wk_f1 : ∀ x, x < 3 → ¬ ((1 : Int32) <<< (nI x &&& 31)) < 0 := by decide +kernel
theorem wk_f2 : ∀ x, x < 3 → ((1 : Int32) <<< (nI x &&& 31)) ≤ 255 := by decide +kernel
theorem wk_from {post : Int32 → St2 → Prop} {x : Nat} (hx : x < 3) (H : post 1 (ec, sz, (1 : Int32) <<< (nI x &&& 31), 0, a1, a2, a3, a4, a5, a6, a7, a8)) :
    wpX_from post (ec, sz, st, kn, a1, a2, a3, a4, a5, a6, a7, a8) ((1 : Int32) <<< (nI x &&& 31)) := by
  unfold wpX_from
  dsimp only
  exact br_f (wk_f1 x hx) (br_t (wk_f2 x hx) H)
end
end
section
/-- by how much a step multiplies the walkers -/
def wk_fa (k c : Nat) : Int32 := if wk_db k c = true then 2 else 1
theorem wk_pos : ∀ k0, k0 < 2 → ∀ k1, k1 < 2 → ∀ x, x < 3 → ¬ wk_mu k1 (wk_nx k0 x) (wk_mu k0 x 1) ≤ 0 := by decide +kernel
theorem wk_prod : ∀ k0, k0 < 2 → ∀ k1, k1 < 2 → ∀ x, x < 3 → wk_mu k1 (wk_nx k0 x) (wk_mu k0 x 1) = wk_fa k0 x * wk_fa k1 (wk_nx k0 x) := by decide +kernel
theorem wk_m1 : ∀ c, c < 3 → (nI c + 1) - (nI c + 1) / 3 * 3 = nI (wk_nx 0 c) := by decide +kernel
theorem wk_m2 : ∀ c, c < 3 → (nI c + 2) - (nI c + 2) / 3 * 3 = nI (wk_nx 1 c) := by decide +kernel
theorem wk_fa0 : ∀ c, c < 3 → c ≠ 0 → wk_fa 0 c = 1 := by decide +kernel
theorem wk_fa1 : ∀ c, c < 3 → c ≠ 1 → wk_fa 1 c = 1 := by decide +kernel
section
variable {mc ms kc ks : Nat} {x4 x5 x6 x7 x8 x9 z0 : Int32}
theorem wk_177 {k c : Nat} (hk : k < 2) (hc : c < 3) (e7 : x7 = x9 * z0) (e8 : x8 = (1 : Int32) <<< (nI (wk_nx k c) &&& 31)) : wL_lawOf_177 (fun r _ => r = 1) mc ms (nI k) x7 x8 x9 (nI c) z0 kc ks := by
  unfold wL_lawOf_177 wL_lawOf_199
  refine pk_eq k 0 (fun z => ⟨by decide, ?_⟩) (fun z => ⟨by decide, ?_⟩)
  · rw [wk_m1 c hc]
    rw [z] at e8
    exact br_t e7 (br_t e8 rfl)
  · rw [wk_m2 c hc]
    rw [show k = 1 by omega] at e8
    exact br_t e7 (br_t e8 rfl)
theorem wk_146 {k c : Nat} (hk : k < 2) (hc : c < 3) (e7 : x7 = x9 * wk_fa k c) (e8 : x8 = (1 : Int32) <<< (nI (wk_nx k c) &&& 31)) : wL_lawOf_146 (fun r _ => r = 1) mc ms (nI k) x7 x8 x9 (nI c) kc ks := by
  unfold wL_lawOf_146
  refine pk_eq k 0 (fun z => pk_eq c 0 (fun y => wk_177 hk hc ?_ e8) (fun y => wk_177 hk hc ?_ e8)) (fun z => pk_eq c 1 (fun y => wk_177 hk hc ?_ e8) (fun y => wk_177 hk hc ?_ e8))
  · rw [e7, z, y]
    rfl
  · rw [e7, z, wk_fa0 c hc y]
  · rw [e7, show k = 1 by omega, y]
    rfl
  · rw [e7, show k = 1 by omega, wk_fa1 c hc y]
theorem wk_124 {k0 k1 x : Nat} (h0 : k0 < 2) (h1 : k1 < 2) (hx : x < 3) (e7 : x7 = z0 * wk_fa k1 (wk_nx k0 x)) (e8 : x8 = (1 : Int32) <<< (nI (wk_nx k1 (wk_nx k0 x)) &&& 31)) : wL_lawOf_124 (fun r _ => r = 1) mc ms (nI k0) (nI k1) (nI x) x7 x8 z0 kc ks := by
  unfold wL_lawOf_124
  refine pk_eq k0 0 (fun z => ⟨by decide, ?_⟩) (fun z => ⟨by decide, ?_⟩)
  · rw [wk_m1 x hx]
    rw [z] at e7 e8
    exact wk_146 h1 (wk_nx3 0 (by omega) x hx) e7 e8
  · rw [wk_m2 x hx]
    rw [show k0 = 1 by omega] at e7 e8
    exact wk_146 h1 (wk_nx3 1 (by omega) x hx) e7 e8
theorem wk_fin {k0 k1 x : Nat} (h0 : k0 < 2) (h1 : k1 < 2) (hx : x < 3) (e7 : x7 = wk_fa k0 x * wk_fa k1 (wk_nx k0 x)) (e8 : x8 = (1 : Int32) <<< (nI (wk_nx k1 (wk_nx k0 x)) &&& 31)) :
    (nI k0 = 0 → ((nI x = 0 → wL_lawOf_124 (fun r _ => r = 1) mc ms (nI k0) (nI k1) (nI x) x7 x8 2 kc ks) ∧ (¬ nI x = 0 → wL_lawOf_124 (fun r _ => r = 1) mc ms (nI k0) (nI k1) (nI x) x7 x8 1 kc ks))) ∧
    (¬ nI k0 = 0 → ((nI x = 1 → wL_lawOf_124 (fun r _ => r = 1) mc ms (nI k0) (nI k1) (nI x) x7 x8 2 kc ks) ∧ (¬ nI x = 1 → wL_lawOf_124 (fun r _ => r = 1) mc ms (nI k0) (nI k1) (nI x) x7 x8 1 kc ks))) := by
  refine pk_eq k0 0 (fun z => pk_eq x 0 (fun y => wk_124 h0 h1 hx ?_ e8) (fun y => wk_124 h0 h1 hx ?_ e8)) (fun z => pk_eq x 1 (fun y => wk_124 h0 h1 hx ?_ e8) (fun y => wk_124 h0 h1 hx ?_ e8))
  · rw [e7, show wk_fa k0 x = 2 from by rw [z, y]; rfl]
  · rw [e7, show wk_fa k0 x = 1 from by rw [z, wk_fa0 x hx y]]
  · rw [e7, show wk_fa k0 x = 2 from by rw [show k0 = 1 by omega, y]; rfl]
  · rw [e7, show wk_fa k0 x = 1 from by rw [show k0 = 1 by omega, wk_fa1 x hx y]]
end
theorem wk_lawOf (p0 p1 p2 : Int32) : wpL_lawOf (fun r _ => r = 1) 9 199 () p0 p1 p2 := by
  obtain ⟨k0, h0, e0⟩ := pk_andE p0 (m := 1) 1 (by decide)
  obtain ⟨k1, h1, e1⟩ := pk_andE p1 (m := 1) 1 (by decide)
  obtain ⟨t, ht, e2⟩ := pk_andE p2 (m := 65535) 16 (by decide)
  have hx : t % 3 < 3 := by omega
  have e3 : (p2 &&& 65535) - (p2 &&& 65535) / 3 * 3 = nI (t % 3) := by
    rw [e2]
    exact pk_rem (d := 3) (by omega) (by omega) (by omega)
  have hn := wk_nx3 k1 h1 _ (wk_nx3 k0 h0 _ hx)
  unfold wpL_lawOf wpX_init
  refine ⟨by omega, by omega, 8, 187, by omega, by omega, ?_⟩
  dsimp only
  refine ⟨by omega, by omega, by omega, by omega, by omega, by omega, by omega, by omega, by omega, by omega, by omega, by omega, by omega, by omega, by omega, by omega, ?_⟩
  refine wk_join (a := 0) (b := 1) (l := 0) (by omega) (by omega) (by omega) (by omega) (by decide +kernel) (by decide) ?_
  dsimp only
  refine wk_join (a := 0) (b := 1) (l := 1) (by omega) (by omega) (by omega) (by omega) (by decide +kernel) (by decide) ?_
  dsimp only
  refine wk_join (a := 1) (b := 2) (l := 0) (by omega) (by omega) (by omega) (by omega) (by decide +kernel) (by decide) ?_
  dsimp only
  refine wk_join (a := 2) (b := 0) (l := 0) (by omega) (by omega) (by omega) (by omega) (by decide +kernel) (by decide) ?_
  dsimp only
  refine nm_r e0 (nm_r e1 ⟨by decide, nm_r e3 ?_⟩)
  refine wk_add (s := 0) (by omega) h0 ?_
  dsimp only
  refine wk_add (s := 0 + 1) (by omega) h1 ?_
  dsimp only
  refine wk_from hx ?_
  dsimp only
  refine wk_walkers hx h0 h1 ⟨by decide +kernel, by decide +kernel⟩ rfl rfl rfl rfl (fun a b d ha => ?_)
  dsimp only
  refine wk_reached (by omega) (by omega) (wk_pos k0 h0 k1 h1 _ hx) ha ?_
  exact wk_fin h0 h1 hx (wk_prod k0 h0 k1 h1 _ hx) rfl
theorem wk_cell {post : Int32 → Prop} {L : Nat} {xs : Nat → Int32} (hL : L ≤ 3) (i : Nat) (hi : i < 3) (H : ∀ y, post y) : wpL_cellAt post L xs () (nI i) := by
  unfold wpL_cellAt
  exact pk_le L i (fun _ => H _) (fun z => ⟨pk_in i L z, H _⟩)
theorem i_vc (xs : Nat → Int32) (L : Nat) (hL : L ≤ 3) : wpL_law (fun r => r = 1) L xs := by
  unfold wpL_law
  exact wk_cell hL 0 (by omega) (fun r1 => wk_cell hL 1 (by omega) (fun r2 => wk_cell hL 2 (by omega) (fun r3 => ⟨9, 199, by omega, by omega, wk_lawOf r1 r2 r3⟩)))
end
