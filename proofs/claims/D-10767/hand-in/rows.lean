section
/-- how many of the first n bits are set -/
def dc_cnt (x : Int32) : Nat → Int32
  | 0 => 0
  | n + 1 => dc_cnt x n + ((x >>> (nI n &&& 31)) &&& 1)
/-- the bit of a signal -/
def dc_B (s : Nat) : Int32 := (1 : Int32) <<< (nI s &&& 31)
/-- a part of a packed word -/
def dc_part (x : Int32) (w : Nat) : Int32 := (x >>> ((4 * nI w) &&& 31)) &&& 15
/-- what pending counts -/
def dc_pc (c : Int32) (a : Nat → Int32) : Nat → Int32
  | 0 => c
  | n + 1 => dc_pc c a n + dc_cnt (a n) 12
/-- the wheel is empty -/
def dc_Z (a : Nat → Int32) : Prop := ∀ j, j < 10 → a j = 0
/-- the wheel holds one signal at one place -/
def dc_O (a : Nat → Int32) (k s : Nat) : Prop := a k = dc_B s ∧ ∀ j, j < 10 → j ≠ k → a j = 0
theorem dc_cnt0 : dc_cnt 0 12 = 0 := by decide +kernel
theorem dc_cnt1 : ∀ s, s < 12 → dc_cnt (dc_B s) 12 = 1 := by decide +kernel
theorem dc_bit : ∀ s, s < 12 → ∀ i, i < 12 → (((dc_B s >>> (nI i &&& 31)) &&& 1) = 1 ↔ i = s) := by decide +kernel
theorem dc_nz : ∀ s, s < 12 → ¬ dc_B s = 0 := by decide +kernel
theorem dc_zb : ∀ s, s < 12 → ¬ (((0 : Int32) >>> (nI s &&& 31)) &&& 1) = 1 := by decide +kernel
theorem dc_pc0 {c : Int32} {a : Nat → Int32} : ∀ n, (∀ j, j < n → a j = 0) → dc_pc c a n = c
  | 0, _ => rfl
  | n + 1, h => by
    show dc_pc c a n + dc_cnt (a n) 12 = c
    rw [dc_pc0 n (fun j hj => h j (by omega)), h n (by omega), dc_cnt0]
    grind
theorem dc_pc1 {a : Nat → Int32} {k s : Nat} (hs : s < 12) (h1 : a k = dc_B s) : ∀ n, k < n → (∀ j, j < n → j ≠ k → a j = 0) → dc_pc 0 a n = 1
  | 0, hk, _ => absurd hk (by omega)
  | n + 1, hk, h => by
    show dc_pc 0 a n + dc_cnt (a n) 12 = 1
    by_cases e : k = n
    · rw [dc_pc0 n (fun j hj => h j (by omega) (by omega)), ← e, h1, dc_cnt1 s hs]
      decide
    · rw [dc_pc1 hs h1 n (by omega) (fun j hj => h j (by omega)), h n (by omega) (fun z => e z.symm), dc_cnt0]
      decide
theorem dc_partE (x : Int32) (w : Nat) : ∃ j : Nat, j < 16 ∧ dc_part x w = nI j := pk_andE _ 4 (by decide)
theorem dc_partIn {x : Int32} {w : Nat} (h : ¬ 12 ≤ dc_part x w) : ∃ j : Nat, j < 12 ∧ dc_part x w = nI j := by
  obtain ⟨j, hj, e⟩ := dc_partE x w
  refine ⟨j, ?_, e⟩
  rcases Nat.lt_or_ge j 12 with z | z
  · exact z
  · exact absurd (show (12 : Int32) ≤ dc_part x w by rw [e]; exact nI_le z (by omega)) h
section
variable {f0 f1 f2 f3 : Int32} {a1 a2 a3 a4 a5 a6 a7 a8 a9 a10 : Nat → Int32}
theorem dc_bits {post : Int32 → Prop} {x : Int32} (hp : post (dc_cnt x 12)) : wpX_bits post () x :=
  loop_0 (fun n i s => wX_bits_4 post x n s (nI i)) (fun i s => s = dc_cnt x i) 12 0 rfl
    (fun n s h => pk_le 12 12 (fun _ => by rw [h]; exact hp) (fun z => absurd z (by omega)))
    (fun n i s hi h hw => pk_le 12 i (fun z => absurd z (by omega)) (fun _ => nm_e (nm_r (nI_1 i) (hw _ (by rw [h]; rfl)))))
theorem dc_badN {post : Int32 → Prop} {s : Nat} (hs : s < 12) (hp : post 0) : wpX_bad post () (nI s) :=
  pk_lt s 0 (fun z => absurd z (by omega)) (fun _ => pk_lt s 12 (fun _ => hp) (fun z => absurd z (by omega)))
theorem dc_badY {post : Int32 → Prop} {x : Int32} (hx : x < 0 ∨ 12 ≤ x) (hp : post 1) : wpX_bad post () x := by
  refine br_c (fun _ => hp) (fun z => ?_)
  obtain ⟨j, hj, rfl⟩ := nI_of z
  refine pk_lt j 12 (fun g => ?_) (fun _ => hp)
  rcases hx with h | h
  · exact absurd h z
  · exact absurd h (nI_ge (b := 12) g (by decide))
theorem dc_slot {post : Int32 → Prop} (t u : Nat) (h : t + u < 2 ^ 31) (hp : post (nI ((t + u) % 10))) : wpX_slotAfter post (f0, nI t, f2, f3, a1, a2, a3, a4, a5, a6, a7, a8, a9, a10) (nI u) := by
  have e : (nI t + nI u) - (nI t + nI u) / 10 * 10 = nI ((t + u) % 10) := by
    rw [nI_add]
    exact pk_rem (d := 10) h (by decide) (by decide)
  refine ⟨by decide, ?_⟩
  rw [e]
  exact hp
theorem dc_pend {post : Int32 → Prop} (hp : post (dc_pc (dc_cnt f3 12) a9 10)) : wpX_pending post (f0, f1, f2, f3, a1, a2, a3, a4, a5, a6, a7, a8, a9, a10) := by
  unfold wpX_pending
  refine dc_bits (loop_0 (fun n i s => wX_pending_10 post f0 f1 f2 f3 a1 a2 a3 a4 a5 a6 a7 a8 a9 a10 n s (nI i)) (fun i s => s = dc_pc (dc_cnt f3 12) a9 i) 10 _ rfl ?_ ?_)
  · exact fun n s h => pk_le 10 10 (fun _ => by rw [h]; exact hp) (fun z => absurd z (by omega))
  · exact fun n i s hi h hw => pk_le 10 i (fun z => absurd z (by omega)) (fun _ => ⟨pk_in i 10 hi, dc_bits (nm_e (nm_r (nI_1 i) (hw _ (by rw [h, nI_clamp (by omega)]; rfl))))⟩)
theorem dc_zero_or (x : Int32) : (0 : Int32) ||| x = x := by
  apply Int32.toBitVec_inj.mp
  rw [Int32.toBitVec_or]
  exact BitVec.zero_or
theorem dc_zero_and (x : Int32) : (0 : Int32) &&& x = 0 := by
  apply Int32.toBitVec_inj.mp
  rw [Int32.toBitVec_and]
  exact BitVec.zero_and
theorem dc_ix (q s : Nat) : nI q * 12 + nI s = nI (q * 12 + s) := by
  rw [← nI_add, ← pk_mul]
  rfl
theorem dc_put16 {post : St2 → Prop} {v : Int32} {t s d : Nat} (ht : t < 100) (hs : s < 12) (hd : d < 10) (u0 : Nat) (hu : u0 ≤ 10) (hz : dc_Z a9)
    (H0 : d = 0 → ∀ b9, dc_Z b9 → post (f0, nI t, f2, dc_B s, a1, a2, a3, a4, a5, a6, a7, upd a8 s v, b9, a10))
    (H1 : 0 < d → ∀ b9, dc_O b9 ((t + d) % 10) s → post (f0, nI t, f2, 0, a1, a2, a3, a4, a5, a6, a7, a8, b9, upd a10 ((t + d) % 10 * 12 + s) v)) :
    ∃ n, wX_putDown_16 post (nI s) v (nI d) (dc_B s) f0 (nI t) f2 0 n (nI u0) a1 a2 a3 a4 a5 a6 a7 a8 a9 a10 := by
  refine pk_loop (fun n i b => wX_putDown_16 post (nI s) v (nI d) (dc_B s) f0 (nI t) f2 0 n (nI i) a1 a2 a3 a4 a5 a6 a7 a8 b a10) (fun _ b => dc_Z b) 10 u0 a9 hu hz ?_ ?_
  · intro n b h
    refine pk_le 10 10 (fun _ => ?_) (fun z => absurd z (by omega))
    refine pk_eq d 0 (fun z => ?_) (fun z => ?_)
    · refine nm_r (dc_zero_or _) ⟨pk_in s 12 hs, nm_r (e' := upd a8 s v) (by rw [nI_clamp (by omega)]) (H0 z b h)⟩
    · have hq : (t + d) % 10 < 10 := Nat.mod_lt _ (by omega)
      refine dc_slot t d (by omega) ⟨pk_in _ 10 hq, pk_in _ 10 hq, nm_e ⟨pk_in ((t + d) % 10 * 12 + s) 120 (by omega) (dc_ix _ _), nm_r (e' := upd a10 ((t + d) % 10 * 12 + s) v) (by rw [dc_ix, nI_clamp (by omega)]) ?_⟩⟩
      refine H1 (by omega) _ ?_
      rw [nI_clamp (by omega), h _ hq, dc_zero_or]
      exact ⟨pk_us, fun j hj hn => by rw [pk_un hn]; exact h j hj⟩
  · intro n i b hi h hw
    have hq : (t + i) % 10 < 10 := Nat.mod_lt _ (by omega)
    refine pk_le 10 i (fun z => absurd z (by omega)) (fun _ => dc_slot t i (by omega) ⟨pk_in _ 10 hq, pk_in _ 10 hq, nm_e (nm_r (nI_1 i) (hw _ ?_))⟩)
    rw [nI_clamp (by omega), h _ hq, dc_zero_and]
    intro j hj
    by_cases e : j = (t + i) % 10
    · rw [e, pk_us]
    · rw [pk_un e]
      exact h j hj
theorem dc_put {post : St2 → Prop} {v : Int32} {t s d : Nat} (ht : t < 100) (hs : s < 12) (hd : d < 10) (hz : dc_Z a9)
    (H0 : d = 0 → ∀ b9, dc_Z b9 → post (f0, nI t, f2, dc_B s, a1, a2, a3, a4, a5, a6, a7, upd a8 s v, b9, a10))
    (H1 : 0 < d → ∀ b9, dc_O b9 ((t + d) % 10) s → post (f0, nI t, f2, 0, a1, a2, a3, a4, a5, a6, a7, a8, b9, upd a10 ((t + d) % 10 * 12 + s) v)) :
    wpX_putDown post (f0, nI t, f2, 0, a1, a2, a3, a4, a5, a6, a7, a8, a9, a10) (nI s) v (nI d) := by
  unfold wpX_putDown
  refine nm_e (pk_le d 0 (fun _ => ?_) (fun _ => ?_))
  · exact dc_put16 ht hs hd 1 (by omega) hz H0 H1
  · exact dc_put16 ht hs hd d (by omega) hz H0 H1
theorem dc_nuZ {post : Int32 → Prop} {t : Nat} (ht : t < 100) (hz : dc_Z a9) (hp : post (-1)) : wpX_nextUnits post (f0, nI t, f2, 0, a1, a2, a3, a4, a5, a6, a7, a8, a9, a10) := by
  unfold wpX_nextUnits
  refine br_t rfl (pk_loop (σ := Unit) (fun n i _ => wX_nextUnits_11 post f0 (nI t) f2 0 a1 a2 a3 a4 a5 a6 a7 a8 a9 a10 n (nI i)) (fun _ _ => True) 10 1 () (by omega) trivial ?_ ?_)
  · exact fun n _ _ => pk_le 10 10 (fun _ => hp) (fun z => absurd z (by omega))
  · intro n i _ hi _ hw
    have hq : (t + i) % 10 < 10 := Nat.mod_lt _ (by omega)
    refine pk_le 10 i (fun z => absurd z (by omega)) (fun _ => dc_slot t i (by omega) ⟨pk_in _ 10 hq, br_t ?_ (nm_r (nI_1 i) (hw () trivial))⟩)
    rw [nI_clamp (by omega)]
    exact hz _ hq
theorem dc_nuD {post : Int32 → Prop} (h : ¬ f3 = 0) (hp : post 0) : wpX_nextUnits post (f0, f1, f2, f3, a1, a2, a3, a4, a5, a6, a7, a8, a9, a10) := br_f h hp
theorem dc_nuW {post : Int32 → Prop} {t d s : Nat} (ht : t < 100) (h0 : 0 < d) (hd : d < 10) (hs : s < 12) (ho : dc_O a9 ((t + d) % 10) s) (hp : post (nI d)) : wpX_nextUnits post (f0, nI t, f2, 0, a1, a2, a3, a4, a5, a6, a7, a8, a9, a10) := by
  unfold wpX_nextUnits
  refine br_t rfl (pk_loop (σ := Unit) (fun n i _ => wX_nextUnits_11 post f0 (nI t) f2 0 a1 a2 a3 a4 a5 a6 a7 a8 a9 a10 n (nI i)) (fun i _ => 1 ≤ i) d 1 () (by omega) (by omega) ?_ ?_)
  · intro n _ _
    have hq : (t + d) % 10 < 10 := Nat.mod_lt _ (by omega)
    refine pk_le 10 d (fun z => absurd z (by omega)) (fun _ => dc_slot t d (by omega) ⟨pk_in _ 10 hq, br_f ?_ hp⟩)
    rw [nI_clamp (by omega), ho.1]
    exact dc_nz s hs
  · intro n i _ hi h1 hw
    have hq : (t + i) % 10 < 10 := Nat.mod_lt _ (by omega)
    refine pk_le 10 i (fun z => absurd z (by omega)) (fun _ => dc_slot t i (by omega) ⟨pk_in _ 10 hq, br_t ?_ (nm_r (nI_1 i) (hw () (by omega)))⟩)
    rw [nI_clamp (by omega)]
    exact ho.2 _ hq (by omega)
theorem dc_cmB {post : Int32 → Prop} {x : Int32} (hx : x < 0 ∨ 12 ≤ x) (hp : post 0) : wpX_coming post (f0, f1, f2, f3, a1, a2, a3, a4, a5, a6, a7, a8, a9, a10) x := by
  unfold wpX_coming
  exact dc_badY hx (br_f (by decide) hp)
theorem dc_cmZ {post : Int32 → Prop} {t s : Nat} (ht : t < 100) (hs : s < 12) (hz : dc_Z a9) (hp : post 0) : wpX_coming post (f0, nI t, f2, 0, a1, a2, a3, a4, a5, a6, a7, a8, a9, a10) (nI s) := by
  unfold wpX_coming
  refine dc_badN hs (br_t rfl (br_f (dc_zb s hs) (pk_loop (σ := Unit) (fun n i _ => wX_coming_30 post (nI s) f0 (nI t) f2 0 a1 a2 a3 a4 a5 a6 a7 a8 a9 a10 n (nI i)) (fun _ _ => True) 10 1 () (by omega) trivial ?_ ?_)))
  · exact fun n _ _ => pk_le 10 10 (fun _ => hp) (fun z => absurd z (by omega))
  · intro n i _ hi _ hw
    have hq : (t + i) % 10 < 10 := Nat.mod_lt _ (by omega)
    refine pk_le 10 i (fun z => absurd z (by omega)) (fun _ => dc_slot t i (by omega) ⟨pk_in _ 10 hq, br_f ?_ (nm_r (nI_1 i) (hw () trivial))⟩)
    rw [nI_clamp (by omega), hz _ hq]
    exact dc_zb s hs
theorem dc_cmD {post : Int32 → Prop} {s : Nat} (hs : s < 12) (hp : post (a8 s)) : wpX_coming post (f0, f1, f2, dc_B s, a1, a2, a3, a4, a5, a6, a7, a8, a9, a10) (nI s) := by
  unfold wpX_coming
  refine dc_badN hs (br_t rfl (br_t ((dc_bit s hs s hs).mpr rfl) ⟨pk_in s 12 hs, ?_⟩))
  rw [nI_clamp (by omega)]
  exact hp
theorem dc_cmW {post : Int32 → Prop} {t d s : Nat} (ht : t < 100) (h0 : 0 < d) (hd : d < 10) (hs : s < 12) (ho : dc_O a9 ((t + d) % 10) s) (hp : post (a10 ((t + d) % 10 * 12 + s))) : wpX_coming post (f0, nI t, f2, 0, a1, a2, a3, a4, a5, a6, a7, a8, a9, a10) (nI s) := by
  unfold wpX_coming
  refine dc_badN hs (br_t rfl (br_f (dc_zb s hs) (pk_loop (σ := Unit) (fun n i _ => wX_coming_30 post (nI s) f0 (nI t) f2 0 a1 a2 a3 a4 a5 a6 a7 a8 a9 a10 n (nI i)) (fun i _ => 1 ≤ i) d 1 () (by omega) (by omega) ?_ ?_)))
  · intro n _ _
    have hq : (t + d) % 10 < 10 := Nat.mod_lt _ (by omega)
    refine pk_le 10 d (fun z => absurd z (by omega)) (fun _ => dc_slot t d (by omega) ⟨pk_in _ 10 hq, br_t ?_ ⟨pk_in ((t + d) % 10 * 12 + s) 120 (by omega) (dc_ix _ _), ?_⟩⟩)
    · rw [nI_clamp (by omega), ho.1]
      exact (dc_bit s hs s hs).mpr rfl
    · rw [dc_ix, nI_clamp (by omega)]
      exact hp
  · intro n i _ hi h1 hw
    have hq : (t + i) % 10 < 10 := Nat.mod_lt _ (by omega)
    refine pk_le 10 i (fun z => absurd z (by omega)) (fun _ => dc_slot t i (by omega) ⟨pk_in _ 10 hq, br_f ?_ (nm_r (nI_1 i) (hw () (by omega)))⟩)
    rw [nI_clamp (by omega), ho.2 _ hq (by omega)]
    exact dc_zb s hs
end
end
section
section
variable {f0 f1 f2 f3 : Int32} {a1 a2 a3 a4 a5 a6 a7 a8 a9 a10 : Nat → Int32}
theorem dc_up {post : Int32 → St2 → Prop} {v : Int32} {s : Nat} (hs : s < 12)
    (H0 : a1 s = v → post 0 (f0, f1, f2, f3, a1, a2, a3, a4, a5, a6, a7, a8, a9, a10))
    (H1 : ¬ a1 s = v → ∀ b1 b2, post 1 (f0, f1, f2, f3, b1, b2, a3, a4, a5, a6, a7, a8, a9, a10)) :
    wpX_update post (f0, f1, f2, f3, a1, a2, a3, a4, a5, a6, a7, a8, a9, a10) (nI s) v := by
  unfold wpX_update
  refine ⟨pk_in s 12 hs, ?_⟩
  rw [nI_clamp (show s < 2 ^ 31 by omega)]
  exact br_c H0 (fun z => ⟨pk_in s 12 hs, nm_e ⟨pk_in s 12 hs, pk_in s 12 hs, nm_e (H1 z _ _)⟩⟩)
theorem dc_cb {post : Int32 → St2 → Prop} {v : Int32} {s : Nat} (hs : s < 12)
    (H0 : a1 s = v → ∀ b1 b2, post 0 (f0, f1, f2, f3, b1, b2, a3, a4, a5, a6, a7, a8, a9, a10))
    (H1 : ¬ a1 s = v → ∀ b1 b2, post (dc_B s) (f0, f1, f2, f3, b1, b2, a3, a4, a5, a6, a7, a8, a9, a10)) :
    wpX_changeBit post (f0, f1, f2, f3, a1, a2, a3, a4, a5, a6, a7, a8, a9, a10) (nI s) v := by
  unfold wpX_changeBit
  exact dc_up hs (fun z => br_t rfl (H0 z _ _)) (fun z b1 b2 => br_f (by decide) (H1 z b1 b2))
/-- what a step answers as changed -/
def dc_C (v : Int32) (s : Nat) : Int32 := if v = 0 then 0 else dc_B s
theorem dc_C0 {v : Int32} {s : Nat} (h : (0 : Int32) = v) : dc_C v s = 0 := if_pos h.symm
theorem dc_C1 {v : Int32} {s : Nat} (h : ¬ (0 : Int32) = v) : dc_C v s = dc_B s := if_neg (fun z => h z.symm)
theorem dc_tc94 {post : Int32 → St2 → Prop} {k s : Nat} (hk : k < 10) (hs : s < 12) (ha : a1 s = 0)
    (H : ∀ b1 b2, post (dc_C (a10 (k * 12 + s)) s) (f0, f1, f2, f3, b1, b2, a3, a4, a5, a6, a7, a8, a9, a10)) :
    ∃ n, wX_takeChanges_94 post (nI k) (dc_B s) n 0 0 f0 f1 f2 f3 a1 a2 a3 a4 a5 a6 a7 a8 a9 a10 := by
  refine loop_0 (σ := Int32 × (Nat → Int32) × (Nat → Int32)) (fun n i u => wX_takeChanges_94 post (nI k) (dc_B s) n u.1 (nI i) f0 f1 f2 f3 u.2.1 u.2.2 a3 a4 a5 a6 a7 a8 a9 a10)
    (fun i u => (i ≤ s → u.1 = 0 ∧ u.2.1 s = 0) ∧ (s < i → u.1 = dc_C (a10 (k * 12 + s)) s)) 12 (0, a1, a2) ⟨fun _ => ⟨rfl, ha⟩, fun z => absurd z (by omega)⟩ ?_ ?_
  · intro n u h
    refine pk_le 12 12 (fun _ => ?_) (fun z => absurd z (by omega))
    rw [h.2 hs]
    exact H _ _
  · intro n i u hi h hw
    refine pk_le 12 i (fun z => absurd z (by omega)) (fun _ => ?_)
    by_cases e : i = s
    · refine br_t ((dc_bit s hs i hi).mpr e) ⟨pk_in (k * 12 + i) 120 (by omega) (dc_ix _ _), ?_⟩
      rw [dc_ix, nI_clamp (by omega)]
      obtain ⟨h1, h2⟩ := h.1 (by omega)
      refine dc_cb hi (fun z b1 b2 => nm_e (nm_r (nI_1 i) (hw (_, b1, b2) ⟨fun g => absurd g (by omega), fun _ => ?_⟩))) (fun z b1 b2 => nm_e (nm_r (nI_1 i) (hw (_, b1, b2) ⟨fun g => absurd g (by omega), fun _ => ?_⟩)))
      · show u.1 ||| 0 = _
        rw [e, h2] at z
        rw [dc_C0 z, h1]
        decide
      · show u.1 ||| dc_B i = _
        rw [e, h2] at z
        rw [dc_C1 z, h1, e, dc_zero_or]
    · refine br_f (fun g => e ((dc_bit s hs i hi).mp g)) (nm_r (nI_1 i) (hw u ⟨fun g => h.1 (by omega), fun g => h.2 (by omega)⟩))
theorem dc_tc19 {post : Int32 → St2 → Prop} {s : Nat} (hs : s < 12) (ha : a1 s = 0)
    (H : ∀ b1 b2, post (dc_C (a8 s) s) (f0, f1, f2, f3, b1, b2, a3, a4, a5, a6, a7, a8, a9, a10)) :
    ∃ n, wX_takeChanges_19 post (dc_B s) n 0 0 f0 f1 f2 f3 a1 a2 a3 a4 a5 a6 a7 a8 a9 a10 := by
  refine loop_0 (σ := Int32 × (Nat → Int32) × (Nat → Int32)) (fun n i u => wX_takeChanges_19 post (dc_B s) n u.1 (nI i) f0 f1 f2 f3 u.2.1 u.2.2 a3 a4 a5 a6 a7 a8 a9 a10)
    (fun i u => (i ≤ s → u.1 = 0 ∧ u.2.1 s = 0) ∧ (s < i → u.1 = dc_C (a8 s) s)) 12 (0, a1, a2) ⟨fun _ => ⟨rfl, ha⟩, fun z => absurd z (by omega)⟩ ?_ ?_
  · intro n u h
    refine pk_le 12 12 (fun _ => ?_) (fun z => absurd z (by omega))
    rw [h.2 hs]
    exact H _ _
  · intro n i u hi h hw
    refine pk_le 12 i (fun z => absurd z (by omega)) (fun _ => ?_)
    by_cases e : i = s
    · refine br_t ((dc_bit s hs i hi).mpr e) ⟨pk_in i 12 hi, ?_⟩
      rw [nI_clamp (by omega)]
      obtain ⟨h1, h2⟩ := h.1 (by omega)
      refine dc_cb hi (fun z b1 b2 => nm_e (nm_r (nI_1 i) (hw (_, b1, b2) ⟨fun g => absurd g (by omega), fun _ => ?_⟩))) (fun z b1 b2 => nm_e (nm_r (nI_1 i) (hw (_, b1, b2) ⟨fun g => absurd g (by omega), fun _ => ?_⟩)))
      · show u.1 ||| 0 = _
        rw [e, h2] at z
        rw [dc_C0 z, h1]
        decide
      · show u.1 ||| dc_B i = _
        rw [e, h2] at z
        rw [dc_C1 z, h1, e, dc_zero_or]
    · refine br_f (fun g => e ((dc_bit s hs i hi).mp g)) (nm_r (nI_1 i) (hw u ⟨fun g => h.1 (by omega), fun g => h.2 (by omega)⟩))
theorem dc_tcD {post : Int32 → St2 → Prop} {s : Nat} (hs : s < 12) (ha : a1 s = 0)
    (H : ∀ b1 b2, post (dc_C (a8 s) s) (f0, f1, f2, 0, b1, b2, a3, a4, a5, a6, a7, a8, a9, a10)) :
    wpX_takeChanges post (f0, f1, f2, dc_B s, a1, a2, a3, a4, a5, a6, a7, a8, a9, a10) 0 := by
  unfold wpX_takeChanges
  exact br_t rfl (dc_tc19 hs ha H)
theorem dc_tcW {post : Int32 → St2 → Prop} {t d s : Nat} (ht : t < 100) (h0 : 0 < d) (hd : d < 10) (hs : s < 12) (ho : dc_O a9 ((t + d) % 10) s) (ha : a1 s = 0)
    (H : ∀ b1 b2 b9, dc_Z b9 → post (dc_C (a10 ((t + d) % 10 * 12 + s)) s) (f0, nI (t + d), f2, f3, b1, b2, a3, a4, a5, a6, a7, a8, b9, a10)) :
    wpX_takeChanges post (f0, nI t, f2, f3, a1, a2, a3, a4, a5, a6, a7, a8, a9, a10) (nI d) := by
  unfold wpX_takeChanges
  have hq : (t + d) % 10 < 10 := Nat.mod_lt _ (by omega)
  refine br_f (nI_ne0 h0 (by omega)) (nm_r (nI_add t d) (dc_slot (t + d) 0 (by omega) ⟨pk_in _ 10 hq, nm_r (e' := dc_B s) ?_ ⟨pk_in _ 10 hq, nm_e (dc_tc94 hq hs ha (fun b1 b2 => H b1 b2 _ ?_))⟩⟩))
  · rw [nI_clamp (by omega)]
    exact ho.1
  · rw [nI_clamp (by omega)]
    intro j hj
    by_cases e : j = (t + d + 0) % 10
    · rw [e, pk_us]
    · rw [pk_un e]
      exact ho.2 j hj e
theorem dc_step30 {post : Int32 → St2 → Prop} {x : Int32} {p : Nat} (hp : p ≤ 8) (hw0 : ∀ j, j < p → a7 j = 0)
    (H : post (dc_cnt x 12) (nI p, f1, f2, f3, a1, a2, a3, a4, a5, a6, a7, a8, a9, a10)) :
    ∃ n, wX_step_30 post x n 0 (nI p) f1 f2 f3 a1 a2 a3 a4 a5 a6 a7 a8 a9 a10 := by
  refine loop_0 (σ := Unit) (fun n i _ => wX_step_30 post x n (nI i) (nI p) f1 f2 f3 a1 a2 a3 a4 a5 a6 a7 a8 a9 a10) (fun _ _ => True) p () trivial ?_ ?_
  · exact fun n _ _ => pk_le p p (fun _ => dc_bits H) (fun z => absurd z (by omega))
  · intro n i _ hi _ hw
    refine pk_le p i (fun z => absurd z (by omega)) (fun _ => ⟨pk_in i 8 (by omega), br_t ?_ (nm_r (nI_1 i) (hw () trivial))⟩)
    rw [nI_clamp (by omega), hw0 i hi, dc_zero_and]
theorem dc_stepZ {post : Int32 → St2 → Prop} {t : Nat} (ht : t < 100) (hz : dc_Z a9)
    (H : post (-5) (f0, nI t, f2, 0, a1, a2, a3, a4, a5, a6, a7, a8, a9, a10)) : wpX_step post (f0, nI t, f2, 0, a1, a2, a3, a4, a5, a6, a7, a8, a9, a10) := by
  unfold wpX_step
  exact dc_nuZ ht hz (br_f (by decide) H)
theorem dc_stepD {post : Int32 → St2 → Prop} {p s : Nat} (hp : p ≤ 8) (hw0 : ∀ j, j < p → a7 j = 0) (hs : s < 12) (ha : a1 s = 0)
    (H : ∀ b1 b2 g2, post (dc_cnt (dc_C (a8 s) s) 12) (nI p, f1, g2, 0, b1, b2, a3, a4, a5, a6, a7, a8, a9, a10)) : wpX_step post (nI p, f1, f2, dc_B s, a1, a2, a3, a4, a5, a6, a7, a8, a9, a10) := by
  unfold wpX_step
  exact dc_nuD (dc_nz s hs) (br_t (by decide) (dc_tcD hs ha (fun b1 b2 => nm_e (dc_step30 hp hw0 (H b1 b2 _)))))
theorem dc_stepW {post : Int32 → St2 → Prop} {t d p s : Nat} (ht : t < 100) (h0 : 0 < d) (hd : d < 10) (hp : p ≤ 8) (hw0 : ∀ j, j < p → a7 j = 0) (hs : s < 12) (ho : dc_O a9 ((t + d) % 10) s) (ha : a1 s = 0)
    (H : ∀ b1 b2 b9 g2, dc_Z b9 → post (dc_cnt (dc_C (a10 ((t + d) % 10 * 12 + s)) s) 12) (nI p, nI (t + d), g2, 0, b1, b2, a3, a4, a5, a6, a7, a8, b9, a10)) : wpX_step post (nI p, nI t, f2, 0, a1, a2, a3, a4, a5, a6, a7, a8, a9, a10) := by
  unfold wpX_step
  exact dc_nuW ht h0 hd hs ho (br_t (nI_pos' (by omega)) (dc_tcW ht h0 hd hs ho ha (fun b1 b2 b9 hz => nm_e (dc_step30 hp hw0 (H b1 b2 b9 _ hz)))))
theorem dc_pbY {post : Int32 → Prop} {x : Int32} {w : Nat} (h : 12 ≤ dc_part x w) (hp : post 1) : wpX_bad post () (dc_part x w) := dc_badY (Or.inr h) hp
theorem dc_pbN {post : Int32 → Prop} {x : Int32} {w : Nat} (h : ¬ 12 ≤ dc_part x w) (hp : post 0) : wpX_bad post () (dc_part x w) := by
  obtain ⟨j, hj, e⟩ := dc_partIn h
  rw [e]
  exact dc_badN hj hp
theorem dc_procB {post : Int32 → St2 → Prop} {x0 x1 x2 x3 : Int32} {d : Nat} (hd : d < 4) (hl : ∀ j, j < d → ¬ 12 ≤ dc_part x1 j) (hb : 12 ≤ dc_part x1 d)
    (H : post (-1) (f0, f1, f2, f3, a1, a2, a3, a4, a5, a6, a7, a8, a9, a10)) : wpX_process post (f0, f1, f2, f3, a1, a2, a3, a4, a5, a6, a7, a8, a9, a10) x0 x1 x2 x3 := by
  unfold wpX_process
  refine loop_0 (σ := Unit) (fun n i _ => wX_process_3 post x0 x1 x2 x3 f0 f1 f2 f3 a1 a2 a3 a4 a5 a6 a7 a8 a9 a10 n (nI i)) (fun _ _ => True) d () trivial ?_ ?_
  · exact fun n _ _ => pk_le 4 d (fun z => absurd z (by omega)) (fun _ => dc_pbY hb (br_f (by decide) H))
  · exact fun n i _ hi _ hw => pk_le 4 i (fun z => absurd z (by omega)) (fun _ => dc_pbN (hl i hi) (br_t rfl (nm_r (nI_1 i) (hw () trivial))))
theorem dc_procG {post : Int32 → St2 → Prop} {x0 x1 x2 x3 : Int32} (hl : ∀ j, j < 4 → ¬ 12 ≤ dc_part x1 j)
    (H2 : ¬ (x0 &&& 7) ≤ 5 → post (-2) (0, f1, f2, f3, a1, a2, a3, a4, a5, a6, a7, a8, a9, a10))
    (H3 : (x0 &&& 7) ≤ 5 → ¬ ((x0 >>> ((4 : Int32) &&& 31)) &&& 15) ≤ 9 → post (-3) (0, f1, f2, f3, a1, a2, a3, a4, a5, a6, a7, a8, a9, a10))
    (H0 : (x0 &&& 7) ≤ 5 → ((x0 >>> ((4 : Int32) &&& 31)) &&& 15) ≤ 9 → post 0 (nI 1, f1, f2, f3, a1, a2, upd a3 0 (x0 &&& 7), upd a4 0 ((x0 >>> ((4 : Int32) &&& 31)) &&& 15), upd a5 0 x1, upd a6 0 x2, upd a7 0 (x3 &&& 4095), a8, a9, a10)) :
    wpX_process post (0, f1, f2, f3, a1, a2, a3, a4, a5, a6, a7, a8, a9, a10) x0 x1 x2 x3 := by
  unfold wpX_process
  refine loop_0 (σ := Unit) (fun n i _ => wX_process_3 post x0 x1 x2 x3 0 f1 f2 f3 a1 a2 a3 a4 a5 a6 a7 a8 a9 a10 n (nI i)) (fun _ _ => True) 4 () trivial ?_ ?_
  · refine fun n _ _ => pk_le 4 4 (fun _ => ?_) (fun z => absurd z (by omega))
    refine nm_e (nm_e (br_c (fun g => br_c (fun g2 => ?_) (H3 g)) H2))
    exact br_t (by decide) ⟨pk_in 0 8 (by omega), nm_e ⟨pk_in 0 8 (by omega), nm_e ⟨pk_in 0 8 (by omega), nm_e ⟨pk_in 0 8 (by omega), nm_e ⟨pk_in 0 8 (by omega), nm_e (nm_e (H0 g g2))⟩⟩⟩⟩⟩
  · exact fun n i _ hi _ hw => pk_le 4 i (fun z => absurd z (by omega)) (fun _ => dc_pbN (hl i hi) (br_t rfl (nm_r (nI_1 i) (hw () trivial))))
theorem dc_vin {x : Int32} {w : Nat} (h : ¬ 12 ≤ dc_part x w) : vp_in (dc_part x w) 12 := by
  obtain ⟨j, hj, e⟩ := dc_partIn h
  exact pk_in j 12 hj e
theorem dc_prt {post : Int32 → Prop} (w : Nat) (hp : post (dc_part (a5 0) w)) : wpX_part post (f0, f1, f2, f3, a1, a2, a3, a4, a5, a6, a7, a8, a9, a10) 0 (nI w) := ⟨pk_in 0 8 (by omega), hp⟩
theorem dc_res {post : Int32 → Prop} {k : Nat} (hl : ∀ j, j < 4 → ¬ 12 ≤ dc_part (a5 0) j) (hk : k ≤ 5) (h3 : a3 0 = nI k) (H : ∀ r, post r) :
    wpX_result post (f0, f1, f2, f3, a1, a2, a3, a4, a5, a6, a7, a8, a9, a10) 0 := by
  unfold wpX_result
  refine dc_prt 0 ⟨dc_vin (hl 0 (by omega)), nm_e (dc_prt 1 ⟨dc_vin (hl 1 (by omega)), nm_e ⟨pk_in 0 8 (by omega), nm_r (e' := nI k) h3 ?_⟩⟩)⟩
  refine pk_lt k 0 (fun _ => H _) (fun _ => pk_lt 4 k (fun _ => H _) (fun z => ?_))
  refine br_c (fun _ => H _) (fun _ => br_c (fun _ => H _) (fun _ => br_c (fun _ => H _) (fun _ => br_c (fun _ => ⟨pk_in 0 8 (by omega), H _⟩) (fun _ => br_c (fun _ => ?_) (fun _ => trivial)))))
  exact dc_prt 2 ⟨dc_vin (hl 2 (by omega)), br_c (fun _ => H _) (fun _ => H _)⟩
/-- poke of the one process: one change is pending behind it -/
theorem dc_poke1 {post : Int32 → St2 → Prop} {t k e : Nat} (ht : t < 100) (hz : dc_Z a9) (hl : ∀ j, j < 4 → ¬ 12 ≤ dc_part (a5 0) j) (hk : k ≤ 5) (h3 : a3 0 = nI k) (he : e ≤ 9) (h4 : a4 0 = nI e) (H : ∀ u, post 1 u) :
    wpX_poke post (nI 1, nI t, f2, 0, a1, a2, a3, a4, a5, a6, a7, a8, a9, a10) 0 := by
  unfold wpX_poke
  refine br_f (by decide) (br_t (by decide) ?_)
  unfold wpX_carryOut
  refine dc_res hl hk h3 (fun r => dc_prt 3 ⟨pk_in 0 8 (by omega), ?_⟩)
  obtain ⟨s, hs, es⟩ := dc_partIn (hl 3 (by omega))
  rw [es, show a4 (0 : Int32).toNatClampNeg = nI e from h4]
  refine dc_put ht hs (by omega) hz (fun _ b9 hb => ?_) (fun _ b9 hb => ?_)
  · refine dc_pend ?_
    rw [dc_pc0 10 hb, dc_cnt1 s hs]
    exact H _
  · refine dc_pend ?_
    rw [dc_cnt0, dc_pc1 hs hb.1 10 (Nat.mod_lt _ (by omega)) hb.2]
    exact H _
theorem dc_pokeB {post : Int32 → St2 → Prop} {x : Int32} (hx : x < 0 ∨ ¬ x < f0) (H : post (-2) (f0, f1, f2, f3, a1, a2, a3, a4, a5, a6, a7, a8, a9, a10)) : wpX_poke post (f0, f1, f2, f3, a1, a2, a3, a4, a5, a6, a7, a8, a9, a10) x := by
  unfold wpX_poke
  rcases hx with h | h
  · exact br_t h H
  · exact br_c (fun _ => H) (fun _ => br_f h H)
theorem dc_driveB {post : Int32 → St2 → Prop} {x v d : Int32} (hx : x < 0 ∨ 12 ≤ x) (H : post (-1) (f0, f1, f2, f3, a1, a2, a3, a4, a5, a6, a7, a8, a9, a10)) : wpX_drive post (f0, f1, f2, f3, a1, a2, a3, a4, a5, a6, a7, a8, a9, a10) x v d := by
  unfold wpX_drive
  exact dc_badY hx (br_f (by decide) H)
theorem dc_driveD {post : Int32 → St2 → Prop} {v d : Int32} {s : Nat} (hs : s < 12) (hd : d < 0 ∨ ¬ d ≤ 9) (H : post (-3) (f0, f1, f2, f3, a1, a2, a3, a4, a5, a6, a7, a8, a9, a10)) : wpX_drive post (f0, f1, f2, f3, a1, a2, a3, a4, a5, a6, a7, a8, a9, a10) (nI s) v d := by
  unfold wpX_drive
  refine dc_badN hs (br_t rfl ?_)
  rcases hd with h | h
  · exact br_t h H
  · exact br_c (fun _ => H) (fun _ => br_f h H)
theorem dc_drive {post : Int32 → St2 → Prop} {v : Int32} {t s d : Nat} (ht : t < 100) (hs : s < 12) (hd : d < 10) (hz : dc_Z a9)
    (H0 : d = 0 → ∀ b9, dc_Z b9 → post 1 (f0, nI t, f2, dc_B s, a1, a2, a3, a4, a5, a6, a7, upd a8 s v, b9, a10))
    (H1 : 0 < d → ∀ b9, dc_O b9 ((t + d) % 10) s → post 1 (f0, nI t, f2, 0, a1, a2, a3, a4, a5, a6, a7, a8, b9, upd a10 ((t + d) % 10 * 12 + s) v)) :
    wpX_drive post (f0, nI t, f2, 0, a1, a2, a3, a4, a5, a6, a7, a8, a9, a10) (nI s) v (nI d) := by
  unfold wpX_drive
  refine dc_badN hs (br_t rfl (pk_lt d 0 (fun z => absurd z (by omega)) (fun _ => pk_le d 9 (fun _ => ?_) (fun z => absurd z (by omega)))))
  refine dc_put ht hs hd hz (fun z b9 hb => ?_) (fun z b9 hb => ?_)
  · refine dc_pend ?_
    rw [dc_pc0 10 hb, dc_cnt1 s hs]
    exact H0 z b9 hb
  · refine dc_pend ?_
    rw [dc_cnt0, dc_pc1 hs hb.1 10 (Nat.mod_lt _ (by omega)) hb.2]
    exact H1 z b9 hb
end
end
section
/-- what stands behind the first call: due is x8, p processes, and the one process is a good one that watches nothing -/
def dc_Q (p : Nat) (x8 : Int32) (a3 a4 a5 a7 : Nat → Int32) : Prop :=
  (x8 = 0 ∧ p = 1 ∧ a7 0 = 0 ∧ (∃ k, k ≤ 5 ∧ a3 0 = nI k) ∧ (∃ e, e ≤ 9 ∧ a4 0 = nI e) ∧ ∀ j, j < 4 → ¬ 12 ≤ dc_part (a5 0) j) ∨ (¬ x8 = 0 ∧ p = 0)
theorem dc_Qw {p : Nat} {x8 : Int32} {a3 a4 a5 a7 : Nat → Int32} (q : dc_Q p x8 a3 a4 a5 a7) : p ≤ 8 ∧ ∀ j, j < p → a7 j = 0 := by
  rcases q with ⟨_, hp, h7, _⟩ | ⟨_, hp⟩
  · refine ⟨by omega, fun j hj => ?_⟩
    rw [show j = 0 by omega]
    exact h7
  · exact ⟨by omega, fun j hj => absurd hj (by omega)⟩
theorem dc_br {x9 x10 : Int32} {A B : Prop} (h : x9 = 0 ∨ x10 = 0) (a : A) : (x9 = 0 → A) ∧ (¬ x9 = 0 → ((x10 = 0 → A) ∧ (¬ x10 = 0 → B))) :=
  br_c (fun _ => a) (fun g => br_c (fun _ => a) (fun g2 => absurd (h.resolve_left g) g2))
section
variable {post : Int32 → St0 → Prop} {mc ms kc ks p : Nat} {x0 x1 x2 x3 x4 x5 x8 x9 x10 z : Int32} {f0 f1 f2 f3 : Int32} {a1 a2 a3 a4 a5 a6 a7 a8 a9 a10 : Nat → Int32}
theorem dc_269 {t : Nat} (q : dc_Q p x8 a3 a4 a5 a7) (ht : t < 100) (hz : dc_Z a9) (hp : post 1 ()) : wL_lawOf_269 post mc ms x5 x8 z z kc ks (nI p) (nI t) f2 0 a1 a2 a3 a4 a5 a6 a7 a8 a9 a10 := by
  unfold wL_lawOf_269
  refine br_t rfl ?_
  rcases q with ⟨h8, rfl, h7, ⟨k, hk, h3⟩, ⟨e, he, h4⟩, hl⟩ | ⟨h8, rfl⟩
  · by_cases hx : x5 = 0
    · subst hx
      refine dc_poke1 ht hz hl hk h3 he h4 (fun u => ?_)
      obtain ⟨g0, g1, g2, g3, b1, b2, b3, b4, b5, b6, b7, b8, b9, b10⟩ := u
      exact br_t h8 (br_t rfl (br_t rfl hp))
    · refine dc_pokeB ?_ (br_t h8 (br_f hx (br_t rfl hp)))
      by_cases hn : x5 < 0
      · exact Or.inl hn
      · refine Or.inr ?_
        obtain ⟨j, hj, rfl⟩ := nI_of hn
        refine nI_nlt ?_ hj
        rcases Nat.eq_zero_or_pos j with e0 | e0
        · exact absurd (by rw [e0]; rfl) hx
        · exact e0
  · refine dc_pokeB ?_ (br_f h8 (br_t rfl hp))
    by_cases hn : x5 < 0
    · exact Or.inl hn
    · exact Or.inr hn
/-- no change was taken in: the rest of the law -/
theorem dc_T0 {t : Nat} (q : dc_Q p x8 a3 a4 a5 a7) (ht : t < 100) (hz : dc_Z a9) (h910 : x9 = 0 ∨ x10 = 0) (hc : ∀ P : Int32 → Prop, P 0 → wpX_coming P (nI p, nI t, f2, 0, a1, a2, a3, a4, a5, a6, a7, a8, a9, a10) x2) (hp : post 1 ()) :
    wL_lawOf_182 post mc ms x2 x3 x4 x5 x8 x9 x10 z z kc ks (nI p) (nI t) f2 0 a1 a2 a3 a4 a5 a6 a7 a8 a9 a10 := by
  unfold wL_lawOf_182
  refine br_t rfl ?_
  unfold wpX_nextTime
  refine dc_nuZ ht hz (br_f (by decide) (dc_br h910 ?_))
  unfold wL_lawOf_207 wL_lawOf_209
  refine br_t rfl (hc _ (dc_br h910 ?_))
  unfold wL_lawOf_234 wL_lawOf_235
  refine br_t rfl (dc_stepZ ht hz (dc_br h910 ?_))
  unfold wL_lawOf_255
  exact dc_269 q ht hz hp
theorem dc_cC0 {v : Int32} {s : Nat} (h : v = 0) : dc_cnt (dc_C v s) 12 = 0 := by
  rw [dc_C0 h.symm, dc_cnt0]
theorem dc_cC1 {v : Int32} {s : Nat} (hs : s < 12) (h : ¬ v = 0) : dc_cnt (dc_C v s) 12 = 1 := by
  rw [dc_C1 (fun g => h g.symm), dc_cnt1 s hs]
/-- a change of this time: the rest of the law -/
theorem dc_TD {s : Nat} (hs : s < 12) (q : dc_Q p x8 a3 a4 a5 a7) (hz : dc_Z a9) (ha : a1 s = 0) (hv : a8 s = x3) (hp : post 1 ()) :
    wL_lawOf_182 post mc ms (nI s) x3 (nI 0) x5 x8 1 1 z z kc ks (nI p) (nI 0) f2 (dc_B s) a1 a2 a3 a4 a5 a6 a7 a8 a9 a10 := by
  have n1 : ¬ (1 : Int32) = 0 := by decide
  unfold wL_lawOf_182
  refine br_t rfl ?_
  unfold wpX_nextTime
  refine dc_nuD (dc_nz s hs) (br_t (by decide) (br_f n1 (br_f n1 ?_)))
  unfold wL_lawOf_209
  refine br_t (by decide) (dc_cmD hs (br_f n1 (br_f n1 ?_)))
  unfold wL_lawOf_235
  refine br_t hv (dc_stepD (dc_Qw q).1 (dc_Qw q).2 hs ha (fun b1 b2 g2 => br_f n1 (br_f n1 ?_)))
  rw [hv]
  refine br_c (fun g => ?_) (fun g => ?_)
  · rw [dc_cC0 g]
    exact dc_269 (t := 0) q (by omega) hz hp
  · rw [dc_cC1 hs g]
    exact dc_269 (t := 0) q (by omega) hz hp
/-- a change of a later time: the rest of the law -/
theorem dc_TW {s d : Nat} (hs : s < 12) (h0 : 0 < d) (hd : d < 10) (q : dc_Q p x8 a3 a4 a5 a7) (ho : dc_O a9 ((0 + d) % 10) s) (ha : a1 s = 0) (hv : a10 ((0 + d) % 10 * 12 + s) = x3) (hp : post 1 ()) :
    wL_lawOf_182 post mc ms (nI s) x3 (nI d) x5 x8 1 1 z z kc ks (nI p) (nI 0) f2 0 a1 a2 a3 a4 a5 a6 a7 a8 a9 a10 := by
  have n1 : ¬ (1 : Int32) = 0 := by decide
  unfold wL_lawOf_182
  refine br_t rfl ?_
  unfold wpX_nextTime
  refine dc_nuW (t := 0) (by omega) h0 hd hs ho (br_t (nI_pos' (by omega)) (br_f n1 (br_f n1 ?_)))
  unfold wL_lawOf_209
  refine br_t (by rw [nI_add, Nat.zero_add]) (dc_cmW (t := 0) (by omega) h0 hd hs ho (br_f n1 (br_f n1 ?_)))
  unfold wL_lawOf_235
  refine br_t hv (dc_stepW (t := 0) (by omega) h0 hd (dc_Qw q).1 (dc_Qw q).2 hs ho ha (fun b1 b2 b9 g2 hb => br_f n1 (br_f n1 ?_)))
  rw [hv]
  refine br_c (fun g => ?_) (fun g => ?_)
  · rw [dc_cC0 g]
    exact dc_269 q (by omega) hb hp
  · rw [dc_cC1 hs g]
    exact dc_269 q (by omega) hb hp
theorem dc_151b (hx : x2 < 0 ∨ 12 ≤ x2) (q : dc_Q p x8 a3 a4 a5 a7) (hz : dc_Z a9) (hp : post 1 ()) :
    wL_lawOf_151 post mc ms x2 x3 x4 x5 x8 0 z kc ks (nI p) (nI 0) f2 0 a1 a2 a3 a4 a5 a6 a7 a8 a9 a10 := by
  unfold wL_lawOf_151
  exact dc_driveB hx (br_t rfl (dc_T0 q (by omega) hz (Or.inl rfl) (fun P h => dc_cmB hx h) hp))
theorem dc_132b (hx : x2 < 0 ∨ 12 ≤ x2) (q : dc_Q p x8 a3 a4 a5 a7) (hz : dc_Z a9) (hp : post 1 ()) :
    wL_lawOf_132 post mc ms x2 x3 x4 x5 x8 0 kc ks (nI p) (nI 0) f2 0 a1 a2 a3 a4 a5 a6 a7 a8 a9 a10 := by
  unfold wL_lawOf_132 wL_lawOf_150
  exact br_c (fun _ => dc_151b hx q hz hp) (fun _ => br_c (fun _ => dc_151b hx q hz hp) (fun _ => dc_151b hx q hz hp))
theorem dc_151d {s : Nat} (hs : s < 12) (hd : x4 < 0 ∨ ¬ x4 ≤ 9) (q : dc_Q p x8 a3 a4 a5 a7) (hz : dc_Z a9) (hp : post 1 ()) :
    wL_lawOf_151 post mc ms (nI s) x3 x4 x5 x8 1 0 kc ks (nI p) (nI 0) f2 0 a1 a2 a3 a4 a5 a6 a7 a8 a9 a10 := by
  unfold wL_lawOf_151
  exact dc_driveD hs hd (br_f (by decide) (br_t rfl (dc_T0 q (by omega) hz (Or.inr rfl) (fun P h => dc_cmZ (by omega) hs hz h) hp)))
theorem dc_151g {s d : Nat} (hs : s < 12) (hd : d < 10) (q : dc_Q p x8 a3 a4 a5 a7) (hz : dc_Z a9) (ha : a1 s = 0) (hp : post 1 ()) :
    wL_lawOf_151 post mc ms (nI s) x3 (nI d) x5 x8 1 1 kc ks (nI p) (nI 0) f2 0 a1 a2 a3 a4 a5 a6 a7 a8 a9 a10 := by
  have n1 : ¬ (1 : Int32) = 0 := by decide
  unfold wL_lawOf_151
  refine dc_drive (t := 0) (by omega) hs hd hz (fun g b9 hb => br_f n1 (br_f n1 ?_)) (fun g b9 hb => br_f n1 (br_f n1 ?_))
  · subst g
    exact dc_TD hs q hb ha pk_us hp
  · exact dc_TW hs g hd q hb ha pk_us hp
theorem dc_132g {s : Nat} (hs : s < 12) (q : dc_Q p x8 a3 a4 a5 a7) (hz : dc_Z a9) (ha : a1 s = 0) (hp : post 1 ()) :
    wL_lawOf_132 post mc ms (nI s) x3 x4 x5 x8 1 kc ks (nI p) (nI 0) f2 0 a1 a2 a3 a4 a5 a6 a7 a8 a9 a10 := by
  unfold wL_lawOf_132 wL_lawOf_150
  refine br_c (fun g => dc_151d hs (Or.inl g) q hz hp) (fun g => br_c (fun g2 => dc_151d hs (Or.inr (Int32.not_le.mpr g2)) q hz hp) (fun g2 => ?_))
  obtain ⟨d, hd, rfl⟩ := nI_of2 (M := 9) (n := 9) (by decide) g (Int32.not_lt.mp g2)
  exact dc_151g hs (by omega) q hz ha hp
/-- behind the first call -/
theorem dc_after (q : dc_Q p x8 a3 a4 a5 a7) (hz : dc_Z a9) (ha : ∀ s, a1 s = 0) (hp : post 1 ()) :
    (x2 < 0 → wL_lawOf_131 post mc ms x2 x3 x4 x5 x8 kc ks (nI p) (nI 0) f2 0 a1 a2 a3 a4 a5 a6 a7 a8 a9 a10) ∧ (¬ x2 < 0 → ((12 ≤ x2 → wL_lawOf_131 post mc ms x2 x3 x4 x5 x8 kc ks (nI p) (nI 0) f2 0 a1 a2 a3 a4 a5 a6 a7 a8 a9 a10) ∧ (¬ 12 ≤ x2 → wL_lawOf_132 post mc ms x2 x3 x4 x5 x8 1 kc ks (nI p) (nI 0) f2 0 a1 a2 a3 a4 a5 a6 a7 a8 a9 a10))) := by
  unfold wL_lawOf_131
  refine br_c (fun g => dc_132b (Or.inl g) q hz hp) (fun g => br_c (fun g2 => dc_132b (Or.inr g2) q hz hp) (fun g2 => ?_))
  obtain ⟨s, hs, rfl⟩ := nI_of g
  refine dc_132g ?_ q hz (ha s) hp
  rcases Nat.lt_or_ge s 12 with e | e
  · exact e
  · exact absurd (nI_le (a := 12) e hs) g2
theorem dc_z0 : dc_Z (fun _ => 0) := fun _ _ => rfl
theorem dc_58b {d : Nat} (hd : d < 4) (hl : ∀ j, j < d → ¬ 12 ≤ dc_part x1 j) (hb : 12 ≤ dc_part x1 d) (hp : post 1 ()) :
    wL_lawOf_58 post mc ms x0 x1 x2 x3 x4 x5 0 kc ks 0 0 0 0 (fun _ => 0) (fun _ => 0) (fun _ => 0) (fun _ => 0) (fun _ => 0) (fun _ => 0) (fun _ => 0) (fun _ => 0) (fun _ => 0) (fun _ => 0) := by
  unfold wL_lawOf_58 wL_lawOf_99
  exact br_t rfl (dc_procB hd hl hb (br_t rfl (dc_after (p := 0) (Or.inr ⟨by decide, rfl⟩) dc_z0 (fun _ => rfl) hp)))
theorem dc_58g (hl : ∀ j, j < 4 → ¬ 12 ≤ dc_part x1 j) (hp : post 1 ()) :
    wL_lawOf_58 post mc ms x0 x1 x2 x3 x4 x5 1 kc ks 0 0 0 0 (fun _ => 0) (fun _ => 0) (fun _ => 0) (fun _ => 0) (fun _ => 0) (fun _ => 0) (fun _ => 0) (fun _ => 0) (fun _ => 0) (fun _ => 0) := by
  unfold wL_lawOf_58 wL_lawOf_99
  refine br_f (by decide) (br_c (fun g => br_c (fun g2 => ?_) (fun g2 => ?_)) (fun g => ?_))
  · refine dc_procG hl (fun z => absurd g z) (fun _ z => absurd g2 z) (fun _ _ => br_t rfl (dc_after (p := 1) (Or.inl ⟨rfl, rfl, ?_, ?_, ?_, ?_⟩) dc_z0 (fun _ => rfl) hp))
    · rw [pk_us]
      decide
    · rw [pk_us]
      obtain ⟨j, hj, e⟩ := pk_andE x0 (m := 7) 3 (by decide)
      refine ⟨j, ?_, e⟩
      rcases Nat.lt_or_ge 5 j with h | h
      · rw [e] at g
        exact absurd g (nI_ge (a := 5) h (by omega))
      · exact h
    · rw [pk_us]
      obtain ⟨j, hj, e⟩ := pk_andE (x0 >>> ((4 : Int32) &&& 31)) (m := 15) 4 (by decide)
      refine ⟨j, ?_, e⟩
      rcases Nat.lt_or_ge 9 j with h | h
      · rw [e] at g2
        exact absurd g2 (nI_ge (a := 9) h (by omega))
      · exact h
    · rw [pk_us]
      exact hl
  · exact dc_procG hl (fun z => absurd g z) (fun _ _ => br_t rfl (dc_after (p := 0) (Or.inr ⟨by decide, rfl⟩) dc_z0 (fun _ => rfl) hp)) (fun _ z => absurd z g2)
  · exact dc_procG hl (fun _ => br_t rfl (dc_after (p := 0) (Or.inr ⟨by decide, rfl⟩) dc_z0 (fun _ => rfl) hp)) (fun z _ => absurd z g) (fun z _ => absurd z g)
theorem dc_p0 (x : Int32) : dc_part x 0 = x &&& 15 := by
  unfold dc_part
  rw [show (4 : Int32) * nI 0 = 0 by decide, sb_shr0]
theorem dc_p1 (x : Int32) : dc_part x 1 = (x >>> ((4 : Int32) &&& 31)) &&& 15 := by
  unfold dc_part
  rw [show (4 : Int32) * nI 1 = 4 by decide]
theorem dc_p2 (x : Int32) : dc_part x 2 = (x >>> ((8 : Int32) &&& 31)) &&& 15 := by
  unfold dc_part
  rw [show (4 : Int32) * nI 2 = 8 by decide]
theorem dc_p3 (x : Int32) : dc_part x 3 = (x >>> ((12 : Int32) &&& 31)) &&& 15 := by
  unfold dc_part
  rw [show (4 : Int32) * nI 3 = 12 by decide]
theorem dc_law (hp : post 1 ()) : wpL_lawOf post 132 2112 () x0 x1 x2 x3 x4 x5 := by
  unfold wpL_lawOf
  refine ⟨by omega, by omega, 10, 206, by omega, by omega, ?_⟩
  unfold wpX_init
  refine ⟨by omega, by omega, by omega, by omega, by omega, by omega, by omega, by omega, by omega, by omega, by omega, by omega, by omega, by omega, by omega, by omega, by omega, by omega, by omega, by omega, ?_⟩
  unfold wL_lawOf_57
  rw [← dc_p0 x1, ← dc_p1 x1, ← dc_p2 x1, ← dc_p3 x1]
  refine br_c (fun g => dc_58b (d := 0) (by omega) lt_0 g hp) (fun g0 => br_c (fun g => dc_58b (d := 1) (by omega) (lt_s lt_0 g0) g hp) (fun g1 => br_c (fun g => dc_58b (d := 2) (by omega) (lt_s (lt_s lt_0 g0) g1) g hp) (fun g2 => br_c (fun g => dc_58b (d := 3) (by omega) (lt_s (lt_s (lt_s lt_0 g0) g1) g2) g hp) (fun g3 => ?_))))
  exact dc_58g (lt_s (lt_s (lt_s (lt_s lt_0 g0) g1) g2) g3) hp
end
theorem dc_cell {P : Int32 → Prop} {L : Nat} {xs : Nat → Int32} {k : Nat} (hL : L ≤ 6) (hk : k < 6) (h : ∀ r, P r) : wpL_cellAt P L xs () (nI k) :=
  pk_le L k (fun _ => h _) (fun z => ⟨pk_in k L z, h _⟩)
theorem i_vc (xs : Nat → Int32) (L : Nat) (hL : L ≤ 6) : wpL_law (fun r => r = 1) L xs := by
  unfold wpL_law
  exact dc_cell (k := 0) hL (by omega) (fun _ => dc_cell (k := 1) hL (by omega) (fun _ => dc_cell (k := 2) hL (by omega) (fun _ => dc_cell (k := 3) hL (by omega) (fun _ => dc_cell (k := 4) hL (by omega) (fun _ => dc_cell (k := 5) hL (by omega) (fun _ => ⟨132, 2112, by omega, by omega, dc_law rfl⟩))))))
end
