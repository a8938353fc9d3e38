section
/-- the signal's bit in a set of signals, or the empty set -/
def dc_b (s : Nat) (b : Bool) : Int32 := cond b ((1 : Int32) <<< (nI s &&& 31)) 0
theorem dc_or : ∀ s, s < 12 → ∀ b : Bool, dc_b s b ||| ((1 : Int32) <<< (nI s &&& 31)) = dc_b s true := by decide +kernel
theorem dc_clr : ∀ s, s < 12 → ∀ b : Bool, dc_b s b &&& (((1 : Int32) <<< (nI s &&& 31)) ^^^ (-1)) = dc_b s false := by decide +kernel
theorem dc_nz : ∀ s, s < 12 → ¬ dc_b s true = 0 := by decide +kernel
theorem dc_tst : ∀ s, s < 12 → ∀ i, i < 12 → ∀ b : Bool, (((dc_b s b >>> (nI i &&& 31)) &&& 1) = 1 ↔ (b = true ∧ i = s)) := by decide +kernel
theorem dc_add : ∀ s, s < 12 → ∀ i, i < 12 → ∀ b : Bool, nI (cond (b && decide (s < i)) 1 0) + ((dc_b s b >>> (nI i &&& 31)) &&& 1) = nI (cond (b && decide (s < i + 1)) 1 0) := by decide +kernel
/-- bits of one signal's set -/
theorem dc_bits {post : Int32 → Prop} {s : Nat} {b : Bool} (hs : s < 12) (h : post (nI b.toNat)) : wpX_bits post () (dc_b s b) :=
  pk_loop (fun n i x => wX_bits_4 post (dc_b s b) n x (nI i)) (fun i x => x = nI (cond (b && decide (s < i)) 1 0)) 12 0 0 (by omega)
    (by
      have e : decide (s < 0) = false := by simp
      show (0 : Int32) = nI (cond (b && decide (s < 0)) 1 0)
      rw [e]
      cases b <;> rfl)
    (fun n x hx => pk_le 12 12 (fun _ => by
      have hx' : x = nI (cond (b && decide (s < 12)) 1 0) := hx
      rw [hx', decide_eq_true hs]
      cases b <;> exact h) (fun z => absurd z (by omega)))
    (fun n i x hi hx hw => pk_le 12 i (fun z => absurd z (by omega)) (fun _ => nm_e (nm_r (nI_1 i) (hw _ (by
      have hx' : x = nI (cond (b && decide (s < i)) 1 0) := hx
      rw [hx']
      exact dc_add s hs i hi b)))))
/-- bits of any set ends -/
theorem dc_bitsA {post : Int32 → Prop} (x : Int32) (h : ∀ r, post r) : wpX_bits post () x :=
  pk_loop (fun n i y => wX_bits_4 post x n y (nI i)) (fun _ _ => True) 12 0 0 (by omega) trivial
    (fun n y _ => pk_le 12 12 (fun _ => h y) (fun z => absurd z (by omega)))
    (fun n i y hi _ hw => pk_le 12 i (fun z => absurd z (by omega)) (fun _ => nm_e (nm_r (nI_1 i) (hw _ trivial))))
theorem dc_bad {post : Int32 → Prop} {s : Nat} (hs : s < 12) (h : post 0) : wpX_bad post () (nI s) :=
  br_f (nI_pos (by omega)) (br_t (nI_lt (b := 12) hs (by decide)) h)
theorem dc_ix (j s : Nat) : nI j * 12 + nI s = nI (j * 12 + s) := by
  have e : (12 : Int32) = nI 12 := rfl
  rw [e, pk_mul, nI_add]
section
variable {a1 a2 a3 a4 a5 a6 a7 a8 a9 a10 : Nat → Int32}
theorem dc_slot {post : Int32 → Prop} {f0 f2 f3 : Int32} {t k : Nat} (ht : t + k < 2 ^ 31) (h : post (nI ((t + k) % 10))) : wpX_slotAfter post (f0, nI t, f2, f3, a1, a2, a3, a4, a5, a6, a7, a8, a9, a10) (nI k) := by
  have e : (nI t + nI k) - (nI t + nI k) / 10 * 10 = nI ((t + k) % 10) := by
    rw [nI_add]
    exact pk_rem (d := 10) ht (by decide) (by decide)
  refine ⟨by decide, ?_⟩
  rw [e]
  exact h
end
/-- how many changes are pending: the delta's, and those of the first i slots -/
def dc_cn (dp : Bool) (wp : Nat → Bool) : Nat → Nat
  | 0 => dp.toNat
  | i + 1 => dc_cn dp wp i + (wp i).toNat
/-- the next changes are due in k units -/
abbrev dc_is (dp : Bool) (wp : Nat → Bool) (t k : Nat) : Prop := (k = 0 ∧ dp = true) ∨ (0 < k ∧ k < 10 ∧ dp = false ∧ wp ((t + k) % 10) = true ∧ ∀ u, u < k → 0 < u → wp ((t + u) % 10) = false)
/-- no changes are due -/
abbrev dc_no (dp : Bool) (wp : Nat → Bool) (t : Nat) : Prop := dp = false ∧ ∀ u, u < 10 → 0 < u → wp ((t + u) % 10) = false
/-- the wheel after a change put down d units after time 0 -/
def dc_wp (d : Nat) (wp : Nat → Bool) : Nat → Bool := fun j => if max d 1 ≤ j then decide (j = d) else wp j
def dc_wv (d : Nat) (v : Int32) (wv : Nat → Int32) : Nat → Int32 := fun j => if ¬ d = 0 ∧ j = d then v else wv j
/-- the wheel after the changes due in k units are taken -/
def dc_tk (wp : Nat → Bool) (t k : Nat) : Nat → Bool := fun j => if ¬ k = 0 ∧ j = (t + k) % 10 then false else wp j
/-- the value that comes in k units -/
def dc_y (dv : Int32) (wv : Nat → Int32) (t k : Nat) : Int32 := if k = 0 then dv else wv ((t + k) % 10)
def dc_n (x y : Int32) (n : Nat) : Nat := if x = y then n else n + 1
/-- the arrays against the picture: signal s has the value x after n events; dp, dv: its delta change; wp, wv: its changes in the wheel; no other signal's -/
def dc_A (s n : Nat) (x : Int32) (dp : Bool) (wp : Nat → Bool) (dv : Int32) (wv : Nat → Int32) (a1 a2 a8 a9 a10 : Nat → Int32) : Prop :=
  a1 s = x ∧ a2 s = nI n ∧ (dp = true → a8 s = dv) ∧ (∀ j, j < 10 → a9 j = dc_b s (wp j)) ∧ (∀ j, j < 10 → wp j = true → a10 (j * 12 + s) = wv j)
end
section
section
variable {a1 a2 a3 a4 a5 a6 a7 a8 a9 a10 : Nat → Int32}
theorem dc_pend {post : Int32 → Prop} {f0 f1 f2 : Int32} {s : Nat} {dp : Bool} {wp : Nat → Bool} (hs : s < 12) (h9 : ∀ j, j < 10 → a9 j = dc_b s (wp j)) (h : post (nI (dc_cn dp wp 10))) :
    wpX_pending post (f0, f1, f2, dc_b s dp, a1, a2, a3, a4, a5, a6, a7, a8, a9, a10) := by
  unfold wpX_pending
  dsimp only
  refine dc_bits hs ?_
  exact pk_loop (fun n i x => wX_pending_10 post f0 f1 f2 (dc_b s dp) a1 a2 a3 a4 a5 a6 a7 a8 a9 a10 n x (nI i)) (fun i x => x = nI (dc_cn dp wp i)) 10 0 (nI dp.toNat) (by omega) rfl
    (fun n x hx => pk_le 10 10 (fun _ => by
      have hx' : x = nI (dc_cn dp wp 10) := hx
      rw [hx']
      exact h) (fun z => absurd z (by omega)))
    (fun n i x hi hx hw => pk_le 10 i (fun z => absurd z (by omega)) (fun _ => ⟨pk_in i 10 hi, by
      have hx' : x = nI (dc_cn dp wp i) := hx
      have e : x + nI (wp i).toNat = nI (dc_cn dp wp (i + 1)) := by
        rw [hx', nI_add]
        rfl
      rw [nI_clamp (show i < 2 ^ 31 by omega), h9 i hi]
      exact dc_bits hs (nm_r e (nm_r (nI_1 i) (hw _ rfl)))⟩))
theorem dc_nu {post : Int32 → Prop} {f0 f2 : Int32} {s t k : Nat} {dp : Bool} {wp : Nat → Bool} (hs : s < 12) (ht : t < 10) (h9 : ∀ j, j < 10 → a9 j = dc_b s (wp j)) (hk : dc_is dp wp t k) (h : post (nI k)) :
    wpX_nextUnits post (f0, nI t, f2, dc_b s dp, a1, a2, a3, a4, a5, a6, a7, a8, a9, a10) := by
  rcases hk with ⟨rfl, rfl⟩ | ⟨k0, k9, rfl, kw, kz⟩
  · exact br_f (dc_nz s hs) h
  · refine br_t rfl (pk_loop (σ := Unit) (fun n i _ => wX_nextUnits_11 post f0 (nI t) f2 (dc_b s false) a1 a2 a3 a4 a5 a6 a7 a8 a9 a10 n (nI i)) (fun i _ => 0 < i) k 1 () (by omega) (by omega) ?_ ?_)
    · intro n _ _
      refine pk_le 10 k (fun z => absurd z (by omega)) (fun _ => dc_slot (by omega) ⟨pk_in ((t + k) % 10) 10 (by omega), ?_⟩)
      rw [nI_clamp (show (t + k) % 10 < 2 ^ 31 by omega), h9 _ (by omega), kw]
      exact br_f (dc_nz s hs) h
    · intro n i _ hi hI hw
      refine pk_le 10 i (fun z => absurd z (by omega)) (fun _ => dc_slot (by omega) ⟨pk_in ((t + i) % 10) 10 (by omega), ?_⟩)
      rw [nI_clamp (show (t + i) % 10 < 2 ^ 31 by omega), h9 _ (by omega), kz i hi hI]
      exact br_t rfl (nm_r (nI_1 i) (hw () (Nat.succ_pos i)))
theorem dc_nu0 {post : Int32 → Prop} {f0 f2 : Int32} {s t : Nat} {dp : Bool} {wp : Nat → Bool} (hs : s < 12) (ht : t < 10) (h9 : ∀ j, j < 10 → a9 j = dc_b s (wp j)) (hk : dc_no dp wp t) (h : post (-1)) :
    wpX_nextUnits post (f0, nI t, f2, dc_b s dp, a1, a2, a3, a4, a5, a6, a7, a8, a9, a10) := by
  obtain ⟨rfl, kz⟩ := hk
  refine br_t rfl (pk_loop (σ := Unit) (fun n i _ => wX_nextUnits_11 post f0 (nI t) f2 (dc_b s false) a1 a2 a3 a4 a5 a6 a7 a8 a9 a10 n (nI i)) (fun i _ => 0 < i) 10 1 () (by omega) (by omega) ?_ ?_)
  · intro n _ _
    exact pk_le 10 10 (fun _ => h) (fun z => absurd z (by omega))
  · intro n i _ hi hI hw
    refine pk_le 10 i (fun z => absurd z (by omega)) (fun _ => dc_slot (by omega) ⟨pk_in ((t + i) % 10) 10 (by omega), ?_⟩)
    rw [nI_clamp (show (t + i) % 10 < 2 ^ 31 by omega), h9 _ (by omega), kz i hi hI]
    exact br_t rfl (nm_r (nI_1 i) (hw () (Nat.succ_pos i)))
theorem dc_k {dp : Bool} {wp : Nat → Bool} {t k : Nat} (hk : dc_is dp wp t k) : k < 10 := by
  rcases hk with h | h
  · omega
  · exact h.2.1
theorem dc_nt {post : Int32 → Prop} {f0 f2 : Int32} {s t k : Nat} {dp : Bool} {wp : Nat → Bool} (hs : s < 12) (ht : t < 10) (h9 : ∀ j, j < 10 → a9 j = dc_b s (wp j)) (hk : dc_is dp wp t k) (h : post (nI (t + k))) :
    wpX_nextTime post (f0, nI t, f2, dc_b s dp, a1, a2, a3, a4, a5, a6, a7, a8, a9, a10) := by
  have k9 := dc_k hk
  unfold wpX_nextTime
  dsimp only
  refine dc_nu hs ht h9 hk (br_t (nI_pos' (by omega)) ?_)
  rw [nI_add]
  exact h
theorem dc_due {post : Int32 → Prop} {f0 f2 : Int32} {s t k E : Nat} {dp : Bool} {wp : Nat → Bool} (hs : s < 12) (ht : t < 10) (h9 : ∀ j, j < 10 → a9 j = dc_b s (wp j)) (hk : dc_is dp wp t k) (hE : t + k ≤ E) (hE' : E < 10) (h : post 1) :
    wpX_due post (f0, nI t, f2, dc_b s dp, a1, a2, a3, a4, a5, a6, a7, a8, a9, a10) (nI E) := by
  have k9 := dc_k hk
  unfold wpX_due
  dsimp only
  refine dc_nu hs ht h9 hk (br_f (nI_pos (by omega)) ?_)
  rw [nI_add]
  exact br_f (nI_nlt hE (by omega)) h
theorem dc_due0 {post : Int32 → Prop} {f0 f2 E : Int32} {s t : Nat} {dp : Bool} {wp : Nat → Bool} (hs : s < 12) (ht : t < 10) (h9 : ∀ j, j < 10 → a9 j = dc_b s (wp j)) (hk : dc_no dp wp t) (h : post 0) :
    wpX_due post (f0, nI t, f2, dc_b s dp, a1, a2, a3, a4, a5, a6, a7, a8, a9, a10) E := by
  unfold wpX_due
  dsimp only
  exact dc_nu0 hs ht h9 hk (br_t (by decide) h)
theorem dc_com {post : Int32 → Prop} {f0 f2 x dv : Int32} {s n t k : Nat} {dp : Bool} {wp : Nat → Bool} {wv : Nat → Int32} (hs : s < 12) (ht : t < 10) (hA : dc_A s n x dp wp dv wv a1 a2 a8 a9 a10) (hk : dc_is dp wp t k) (h : post (dc_y dv wv t k)) :
    wpX_coming post (f0, nI t, f2, dc_b s dp, a1, a2, a3, a4, a5, a6, a7, a8, a9, a10) (nI s) := by
  obtain ⟨_, _, h8, h9, h10⟩ := hA
  unfold wpX_coming
  dsimp only
  refine dc_bad hs (br_t rfl ?_)
  rcases hk with ⟨rfl, rfl⟩ | ⟨k0, k9, rfl, kw, kz⟩
  · refine br_t ((dc_tst s hs s hs true).mpr ⟨rfl, rfl⟩) ⟨pk_in s 12 hs, ?_⟩
    rw [nI_clamp (show s < 2 ^ 31 by omega), h8 rfl]
    exact h
  · have hy : dc_y dv wv t k = wv ((t + k) % 10) := if_neg (by omega)
    refine br_f (fun z => absurd ((dc_tst s hs s hs false).mp z).1 (by decide)) (pk_loop (σ := Unit) (fun n i _ => wX_coming_30 post (nI s) f0 (nI t) f2 (dc_b s false) a1 a2 a3 a4 a5 a6 a7 a8 a9 a10 n (nI i)) (fun i _ => 0 < i) k 1 () (by omega) (by omega) ?_ ?_)
    · intro n _ _
      refine pk_le 10 k (fun z => absurd z (by omega)) (fun _ => dc_slot (by omega) ⟨pk_in ((t + k) % 10) 10 (by omega), ?_⟩)
      rw [nI_clamp (show (t + k) % 10 < 2 ^ 31 by omega), h9 _ (by omega), kw]
      refine br_t ((dc_tst s hs s hs true).mpr ⟨rfl, rfl⟩) ⟨?_, ?_⟩
      · rw [dc_ix]
        exact vp_in_nI (by omega) (by decide)
      · rw [dc_ix, nI_clamp (show (t + k) % 10 * 12 + s < 2 ^ 31 by omega), h10 _ (by omega) kw, ← hy]
        exact h
    · intro n i _ hi hI hw
      refine pk_le 10 i (fun z => absurd z (by omega)) (fun _ => dc_slot (by omega) ⟨pk_in ((t + i) % 10) 10 (by omega), ?_⟩)
      rw [nI_clamp (show (t + i) % 10 < 2 ^ 31 by omega), h9 _ (by omega), kz i hi hI]
      exact br_f (fun z => absurd ((dc_tst s hs s hs false).mp z).1 (by decide)) (nm_r (nI_1 i) (hw () (Nat.succ_pos i)))
/-- putDown at time 0 -/
theorem dc_put {post : St2 → Prop} {f0 f2 x dv v : Int32} {s n d : Nat} {dp : Bool} {wp : Nat → Bool} {wv : Nat → Int32} (hs : s < 12) (hd : d < 10) (hA : dc_A s n x dp wp dv wv a1 a2 a8 a9 a10)
    (H : ∀ b8 b9 b10, dc_A s n x (decide (d = 0) || dp) (dc_wp d wp) (if d = 0 then v else dv) (dc_wv d v wv) a1 a2 b8 b9 b10 → post (f0, nI 0, f2, dc_b s (decide (d = 0) || dp), a1, a2, a3, a4, a5, a6, a7, b8, b9, b10)) :
    wpX_putDown post (f0, nI 0, f2, dc_b s dp, a1, a2, a3, a4, a5, a6, a7, a8, a9, a10) (nI s) v (nI d) := by
  obtain ⟨h1, h2, h8, h9, h10⟩ := hA
  have main : ∀ i0, i0 = max d 1 → ∃ fu, wX_putDown_16 post (nI s) v (nI d) ((1 : Int32) <<< (nI s &&& 31)) f0 (nI 0) f2 (dc_b s dp) fu (nI i0) a1 a2 a3 a4 a5 a6 a7 a8 a9 a10 := by
    intro i0 hi0
    refine pk_loop (fun n i q => wX_putDown_16 post (nI s) v (nI d) ((1 : Int32) <<< (nI s &&& 31)) f0 (nI 0) f2 (dc_b s dp) n (nI i) a1 a2 a3 a4 a5 a6 a7 a8 q a10) (fun i q => i0 ≤ i ∧ ∀ j, j < 10 → q j = dc_b s (if i0 ≤ j ∧ j < i then false else wp j)) 10 i0 a9 (by omega) ⟨by omega, fun j hj => ?_⟩ ?_ ?_
    · rw [if_neg (by omega)]
      exact h9 j hj
    · intro n q hq
      obtain ⟨_, hq⟩ := hq
      refine pk_le 10 10 (fun _ => ?_) (fun z => absurd z (by omega))
      refine pk_eq d 0 (fun z => ?_) (fun z => ?_)
      · subst z
        refine nm_r (dc_or s hs dp) ⟨pk_in s 12 hs, nm_e ?_⟩
        rw [nI_clamp (show s < 2 ^ 31 by omega)]
        refine H _ _ _ ⟨h1, h2, fun _ => by rw [pk_us]; rfl, fun j hj => ?_, fun j hj hw => ?_⟩
        · rw [hq j hj]
          unfold dc_wp
          by_cases e : 1 ≤ j
          · rw [if_pos (by omega), if_pos (by omega), decide_eq_false (by omega)]
          · rw [if_neg (by omega), if_neg (by omega)]
        · unfold dc_wp at hw
          by_cases e : 1 ≤ j
          · rw [if_pos (by omega), decide_eq_false (by omega)] at hw
            exact absurd hw (by decide)
          · rw [if_neg (by omega)] at hw
            unfold dc_wv
            rw [if_neg (by omega)]
            exact h10 j hj hw
      · have ed : (0 + d) % 10 = d := by omega
        have ez : (decide (d = 0) || dp) = dp := by rw [decide_eq_false z]; rfl
        refine dc_slot (by omega) ?_
        rw [ed]
        refine ⟨pk_in d 10 hd, pk_in d 10 hd, nm_e ⟨?_, nm_e ?_⟩⟩
        · rw [dc_ix]
          exact vp_in_nI (by omega) (by decide)
        · rw [dc_ix, nI_clamp (show d * 12 + s < 2 ^ 31 by omega), nI_clamp (show d < 2 ^ 31 by omega)]
          rw [ez] at H
          refine H _ _ _ ⟨h1, h2, fun hw => ?_, fun j hj => ?_, fun j hj hw => ?_⟩
          · rw [if_neg z]
            exact h8 hw
          · unfold dc_wp
            by_cases e : j = d
            · rw [e, pk_us, hq d hd, dc_or s hs, if_pos (by omega), decide_eq_true rfl]
            · rw [pk_un e, hq j hj]
              by_cases e2 : d ≤ j
              · rw [if_pos (by omega), if_pos (by omega), decide_eq_false e]
              · rw [if_neg (by omega), if_neg (by omega)]
          · unfold dc_wv
            by_cases e : j = d
            · rw [e, pk_us, if_pos ⟨z, rfl⟩]
            · unfold dc_wp at hw
              rw [pk_un (by omega), if_neg (by omega)]
              by_cases e2 : d ≤ j
              · rw [if_pos (by omega), decide_eq_false e] at hw
                exact absurd hw (by decide)
              · rw [if_neg (by omega)] at hw
                exact h10 j hj hw
    · intro n i q hi hI hw
      obtain ⟨hi1, hq⟩ := hI
      refine pk_le 10 i (fun z => absurd z (by omega)) (fun _ => dc_slot (by omega) ?_)
      have ei : (0 + i) % 10 = i := by omega
      rw [ei]
      refine ⟨pk_in i 10 hi, pk_in i 10 hi, nm_e (nm_r (nI_1 i) (hw _ ⟨by omega, fun j hj => ?_⟩))⟩
      rw [nI_clamp (show i < 2 ^ 31 by omega)]
      by_cases e : j = i
      · rw [e, pk_us, hq i hi, dc_clr s hs, if_pos (by omega)]
      · rw [pk_un e, hq j hj]
        by_cases e2 : i0 ≤ j ∧ j < i
        · rw [if_pos e2, if_pos (by omega)]
        · rw [if_neg e2, if_neg (by omega)]
  unfold wpX_putDown
  dsimp only
  exact nm_e (pk_le d 0 (fun z => main 1 (by omega)) (fun z => main d (by omega)))
/-- drive at time 0 -/
theorem dc_drv {post : Int32 → St2 → Prop} {f0 f2 x dv v : Int32} {s n d : Nat} {dp : Bool} {wp : Nat → Bool} {wv : Nat → Int32} (hs : s < 12) (hd : d < 10) (hA : dc_A s n x dp wp dv wv a1 a2 a8 a9 a10)
    (H : ∀ b8 b9 b10, dc_A s n x (decide (d = 0) || dp) (dc_wp d wp) (if d = 0 then v else dv) (dc_wv d v wv) a1 a2 b8 b9 b10 → post (nI (dc_cn (decide (d = 0) || dp) (dc_wp d wp) 10)) (f0, nI 0, f2, dc_b s (decide (d = 0) || dp), a1, a2, a3, a4, a5, a6, a7, b8, b9, b10)) :
    wpX_drive post (f0, nI 0, f2, dc_b s dp, a1, a2, a3, a4, a5, a6, a7, a8, a9, a10) (nI s) v (nI d) := by
  unfold wpX_drive
  dsimp only
  refine dc_bad hs (br_t rfl (br_f (nI_pos (by omega)) (br_t (nI_le (b := 9) (by omega) (by decide)) ?_)))
  exact dc_put hs hd hA (fun b8 b9 b10 hB => dc_pend hs hB.2.2.2.1 (H b8 b9 b10 hB))
end
end
section
section
variable {a1 a2 a3 a4 a5 a6 a7 a8 a9 a10 : Nat → Int32}
theorem dc_chg {post : Int32 → St2 → Prop} {f0 f1 f2 f3 x y : Int32} {s n : Nat} (hs : s < 12) (h1 : a1 s = x) (h2 : a2 s = nI n)
    (H : ∀ r b1 b2, b1 s = y → b2 s = nI (dc_n x y n) → post r (f0, f1, f2, f3, b1, b2, a3, a4, a5, a6, a7, a8, a9, a10)) :
    wpX_changeBit post (f0, f1, f2, f3, a1, a2, a3, a4, a5, a6, a7, a8, a9, a10) (nI s) y := by
  unfold wpX_changeBit wpX_update
  dsimp only
  refine ⟨pk_in s 12 hs, ?_⟩
  rw [nI_clamp (show s < 2 ^ 31 by omega), h1]
  refine br_c (fun e => br_t rfl (H _ _ _ (by rw [h1, e]) ?_)) (fun e => ⟨pk_in s 12 hs, nm_e ⟨pk_in s 12 hs, pk_in s 12 hs, nm_e (br_f (by decide) (H _ _ _ pk_us ?_))⟩⟩)
  · unfold dc_n
    rw [if_pos e, h2]
  · unfold dc_n
    rw [if_neg e, pk_us, h2, nI_1]
theorem dc_t19 {post : Int32 → St2 → Prop} {f0 f1 f2 f3 x y : Int32} {s n : Nat} (hs : s < 12) (h1 : a1 s = x) (h2 : a2 s = nI n) (h8 : a8 s = y)
    (H : ∀ r b1 b2, b1 s = y → b2 s = nI (dc_n x y n) → post r (f0, f1, f2, f3, b1, b2, a3, a4, a5, a6, a7, a8, a9, a10)) :
    ∃ fu, wX_takeChanges_19 post (dc_b s true) fu 0 0 f0 f1 f2 f3 a1 a2 a3 a4 a5 a6 a7 a8 a9 a10 := by
  refine pk_loop (σ := Int32 × (Nat → Int32) × (Nat → Int32)) (fun n i q => wX_takeChanges_19 post (dc_b s true) n q.1 (nI i) f0 f1 f2 f3 q.2.1 q.2.2 a3 a4 a5 a6 a7 a8 a9 a10)
    (fun i q => (i ≤ s → q.2.1 s = x ∧ q.2.2 s = nI n) ∧ (s < i → q.2.1 s = y ∧ q.2.2 s = nI (dc_n x y n))) 12 0 (0, a1, a2) (by omega) ⟨fun _ => ⟨h1, h2⟩, fun z => absurd z (by omega)⟩ ?_ ?_
  · intro m q hq
    exact pk_le 12 12 (fun _ => H _ _ _ (hq.2 hs).1 (hq.2 hs).2) (fun z => absurd z (by omega))
  · intro m i q hi hI hw
    refine pk_le 12 i (fun z => absurd z (by omega)) (fun _ => ?_)
    by_cases e : i = s
    · subst e
      refine br_t ((dc_tst i hs i hs true).mpr ⟨rfl, rfl⟩) ⟨pk_in i 12 hs, ?_⟩
      rw [nI_clamp (show i < 2 ^ 31 by omega), h8]
      have h := hI.1 (Nat.le_refl i)
      exact dc_chg hs h.1 h.2 (fun r b1 b2 e1 e2 => nm_e (nm_r (nI_1 i) (hw (_, b1, b2) ⟨fun z => absurd z (by omega), fun _ => ⟨e1, e2⟩⟩)))
    · exact br_f (fun z => e ((dc_tst s hs i hi true).mp z).2) (nm_r (nI_1 i) (hw q ⟨fun z => hI.1 (by omega), fun z => hI.2 (by omega)⟩))
theorem dc_t94 {post : Int32 → St2 → Prop} {f0 f1 f2 f3 x y : Int32} {s n l : Nat} (hs : s < 12) (hl : l < 10) (h1 : a1 s = x) (h2 : a2 s = nI n) (h10 : a10 (l * 12 + s) = y)
    (H : ∀ r b1 b2, b1 s = y → b2 s = nI (dc_n x y n) → post r (f0, f1, f2, f3, b1, b2, a3, a4, a5, a6, a7, a8, a9, a10)) :
    ∃ fu, wX_takeChanges_94 post (nI l) (dc_b s true) fu 0 0 f0 f1 f2 f3 a1 a2 a3 a4 a5 a6 a7 a8 a9 a10 := by
  refine pk_loop (σ := Int32 × (Nat → Int32) × (Nat → Int32)) (fun n i q => wX_takeChanges_94 post (nI l) (dc_b s true) n q.1 (nI i) f0 f1 f2 f3 q.2.1 q.2.2 a3 a4 a5 a6 a7 a8 a9 a10)
    (fun i q => (i ≤ s → q.2.1 s = x ∧ q.2.2 s = nI n) ∧ (s < i → q.2.1 s = y ∧ q.2.2 s = nI (dc_n x y n))) 12 0 (0, a1, a2) (by omega) ⟨fun _ => ⟨h1, h2⟩, fun z => absurd z (by omega)⟩ ?_ ?_
  · intro m q hq
    exact pk_le 12 12 (fun _ => H _ _ _ (hq.2 hs).1 (hq.2 hs).2) (fun z => absurd z (by omega))
  · intro m i q hi hI hw
    refine pk_le 12 i (fun z => absurd z (by omega)) (fun _ => ?_)
    by_cases e : i = s
    · subst e
      refine br_t ((dc_tst i hs i hs true).mpr ⟨rfl, rfl⟩) ⟨?_, ?_⟩
      · rw [dc_ix]
        exact vp_in_nI (by omega) (by decide)
      · rw [dc_ix, nI_clamp (show l * 12 + i < 2 ^ 31 by omega), h10]
        have h := hI.1 (Nat.le_refl i)
        exact dc_chg hs h.1 h.2 (fun r b1 b2 e1 e2 => nm_e (nm_r (nI_1 i) (hw (_, b1, b2) ⟨fun z => absurd z (by omega), fun _ => ⟨e1, e2⟩⟩)))
    · exact br_f (fun z => e ((dc_tst s hs i hi true).mp z).2) (nm_r (nI_1 i) (hw q ⟨fun z => hI.1 (by omega), fun z => hI.2 (by omega)⟩))
theorem dc_take {post : Int32 → St2 → Prop} {f0 f2 x dv : Int32} {s n t k : Nat} {dp : Bool} {wp : Nat → Bool} {wv : Nat → Int32} (hs : s < 12) (ht : t < 10) (hA : dc_A s n x dp wp dv wv a1 a2 a8 a9 a10) (hk : dc_is dp wp t k)
    (H : ∀ r b1 b2 b9, dc_A s (dc_n x (dc_y dv wv t k) n) (dc_y dv wv t k) false (dc_tk wp t k) dv wv b1 b2 a8 b9 a10 → post r (f0, nI (t + k), f2, dc_b s false, b1, b2, a3, a4, a5, a6, a7, a8, b9, a10)) :
    wpX_takeChanges post (f0, nI t, f2, dc_b s dp, a1, a2, a3, a4, a5, a6, a7, a8, a9, a10) (nI k) := by
  obtain ⟨h1, h2, h8, h9, h10⟩ := hA
  unfold wpX_takeChanges
  dsimp only
  rcases hk with ⟨rfl, rfl⟩ | ⟨k0, k9, rfl, kw, kz⟩
  · refine br_t rfl (dc_t19 hs h1 h2 (h8 rfl) (fun r b1 b2 e1 e2 => ?_))
    refine H r b1 b2 a9 ⟨e1, e2, fun z => absurd z (by decide), fun j hj => ?_, fun j hj hw => ?_⟩
    · unfold dc_tk
      rw [if_neg (by omega)]
      exact h9 j hj
    · unfold dc_tk at hw
      rw [if_neg (by omega)] at hw
      exact h10 j hj hw
  · have hy : dc_y dv wv t k = wv ((t + k) % 10) := if_neg (by omega)
    refine br_f (nI_ne0 k0 (by omega)) (nm_r (nI_add t k) (dc_slot (k := 0) (by omega) ?_))
    have el : (t + k) % 10 < 10 := by omega
    have ee : (t + k + 0) % 10 = (t + k) % 10 := rfl
    rw [ee]
    refine ⟨pk_in ((t + k) % 10) 10 el, nm_r (show a9 (nI ((t + k) % 10)).toNatClampNeg = dc_b s true from ?_) ⟨pk_in ((t + k) % 10) 10 el, nm_e ?_⟩⟩
    · rw [nI_clamp (show (t + k) % 10 < 2 ^ 31 by omega), h9 _ el, kw]
    · refine dc_t94 hs el h1 h2 (h10 _ el kw) (fun r b1 b2 e1 e2 => ?_)
      rw [← hy] at e1 e2
      refine H r b1 b2 _ ⟨e1, e2, fun z => absurd z (by decide), fun j hj => ?_, fun j hj hw => ?_⟩
      · rw [nI_clamp (show (t + k) % 10 < 2 ^ 31 by omega)]
        unfold dc_tk
        by_cases e : j = (t + k) % 10
        · rw [e, pk_us, if_pos ⟨by omega, rfl⟩]
          rfl
        · rw [pk_un e, if_neg (fun z => e z.2)]
          exact h9 j hj
      · unfold dc_tk at hw
        by_cases e : j = (t + k) % 10
        · rw [if_pos ⟨by omega, e⟩] at hw
          exact absurd hw (by decide)
        · rw [if_neg (fun z => e z.2)] at hw
          exact h10 j hj hw
/-- one cycle, no processes -/
theorem dc_step {post : Int32 → St2 → Prop} {x dv : Int32} {s n t k c : Nat} {dp : Bool} {wp : Nat → Bool} {wv : Nat → Int32} (hs : s < 12) (ht : t < 10) (hA : dc_A s n x dp wp dv wv a1 a2 a8 a9 a10) (hk : dc_is dp wp t k)
    (H : ∀ r b1 b2 b9, dc_A s (dc_n x (dc_y dv wv t k) n) (dc_y dv wv t k) false (dc_tk wp t k) dv wv b1 b2 a8 b9 a10 → post r (0, nI (t + k), nI (c + 1), dc_b s false, b1, b2, a3, a4, a5, a6, a7, a8, b9, a10)) :
    wpX_step post (0, nI t, nI c, dc_b s dp, a1, a2, a3, a4, a5, a6, a7, a8, a9, a10) := by
  have k9 := dc_k hk
  unfold wpX_step
  dsimp only
  refine dc_nu hs ht hA.2.2.2.1 hk (br_t (nI_pos' (by omega)) ?_)
  refine dc_take hs ht hA hk (fun r b1 b2 b9 hB => nm_r (nI_1 c) ⟨0 + 1, ?_⟩)
  exact br_t (show (0 : Int32) ≤ 0 by decide) (dc_bitsA _ (fun r' => H r' b1 b2 b9 hB))
/-- the loop of run: at its end, and a turn -/
theorem dc_r0 {post : Int32 → St2 → Prop} {E f0 f1 f2 f3 : Int32} {n m : Nat} (hm : m < 9) (h : post (nI m) (f0, f1, f2, f3, a1, a2, a3, a4, a5, a6, a7, a8, a9, a10)) :
    wX_run_59 post 9 E (n + 1) (nI m) 0 f0 f1 f2 f3 a1 a2 a3 a4 a5 a6 a7 a8 a9 a10 :=
  pk_le 9 m (fun z => absurd z (by omega)) (fun _ => br_t rfl h)
theorem dc_r1 {post : Int32 → St2 → Prop} {E x dv : Int32} {s n t k c fu m : Nat} {dp : Bool} {wp : Nat → Bool} {wv : Nat → Int32} (hm : m < 9) (hs : s < 12) (ht : t < 10) (hA : dc_A s n x dp wp dv wv a1 a2 a8 a9 a10) (hk : dc_is dp wp t k)
    (H : ∀ b1 b2 b9, dc_A s (dc_n x (dc_y dv wv t k) n) (dc_y dv wv t k) false (dc_tk wp t k) dv wv b1 b2 a8 b9 a10 → wpX_due (fun r => wX_run_59 post 9 E fu (nI (m + 1)) r 0 (nI (t + k)) (nI (c + 1)) (dc_b s false) b1 b2 a3 a4 a5 a6 a7 a8 b9 a10) (0, nI (t + k), nI (c + 1), dc_b s false, b1, b2, a3, a4, a5, a6, a7, a8, b9, a10) E) :
    wX_run_59 post 9 E (fu + 1) (nI m) 1 0 (nI t) (nI c) (dc_b s dp) a1 a2 a3 a4 a5 a6 a7 a8 a9 a10 :=
  pk_le 9 m (fun z => absurd z (by omega)) (fun _ => br_f (by decide) (dc_step hs ht hA hk (fun r b1 b2 b9 hB => nm_r (nI_1 m) (H b1 b2 b9 hB))))
theorem dc_run {post : Int32 → St2 → Prop} {f0 f2 f3 : Int32} {e : Nat} (he : e < 10) (h : wpX_due (fun r => ∃ fu, wX_run_59 post 9 (nI e) fu 0 r f0 (nI 0) f2 f3 a1 a2 a3 a4 a5 a6 a7 a8 a9 a10) (f0, nI 0, f2, f3, a1, a2, a3, a4, a5, a6, a7, a8, a9, a10) (nI e)) :
    wpX_run post (f0, nI 0, f2, f3, a1, a2, a3, a4, a5, a6, a7, a8, a9, a10) (nI e) 9 := by
  have ez : nI 0 + nI e = nI e := by rw [nI_add, Nat.zero_add]
  refine br_t (show (9 : Int32) ≤ 200 by decide) (br_t (nI_pos' (by omega)) (br_t (nI_le (b := 1000) (by omega) (by decide)) (nm_r ez h)))
/-- the law's tail -/
theorem dc_238 {post : Int32 → St0 → Prop} {mc ms kc ks : Nat} {z0 z1 f0 f2 : Int32} {s e : Nat} {wp : Nat → Bool} (hp : post 1 ()) (hs : s < 12) (h9 : ∀ j, j < 10 → a9 j = dc_b s (wp j)) (hc : dc_cn false wp 10 = 0) (hz : z1 = z0) :
    wL_lawOf_238 post mc ms (nI e) z0 z1 kc ks f0 (nI e) f2 (dc_b s false) a1 a2 a3 a4 a5 a6 a7 a8 a9 a10 := by
  refine br_t hz (br_t rfl (dc_pend hs h9 (br_t ?_ hp)))
  rw [hc]
  rfl
theorem dc_209 {post : Int32 → St0 → Prop} {mc ms kc ks : Nat} {x9 z0 f0 : Int32} {s e c : Nat} {wp : Nat → Bool} (hp : post 1 ()) (hs : s < 12) (h9 : ∀ j, j < 10 → a9 j = dc_b s (wp j)) (hc : dc_cn false wp 10 = 0) (hz : a2 s = z0)
    (h0 : x9 = 0 → c = 2) (h1 : ¬ x9 = 0 → c = 1) :
    wL_lawOf_209 post mc ms (nI s) (nI e) x9 z0 kc ks f0 (nI e) (nI c) (dc_b s false) a1 a2 a3 a4 a5 a6 a7 a8 a9 a10 := by
  unfold wL_lawOf_209 wpX_events
  dsimp only
  refine dc_bad hs (br_t rfl ⟨pk_in s 12 hs, br_t ?_ ?_⟩)
  · rw [nI_clamp (show s < 2 ^ 31 by omega)]
    exact hz
  · exact br_c (fun g => dc_238 hp hs h9 hc (by rw [h0 g]; rfl)) (fun g => dc_238 hp hs h9 hc (by rw [h1 g]; rfl))
end
end
section
/-- the picture after both drives -/
def dc_p2 (d e : Nat) : Bool := decide (e = 0) || (decide (d = 0) || false)
def dc_w2 (d e : Nat) : Nat → Bool := dc_wp e (dc_wp d (fun _ => false))
theorem dc_isI {dp : Bool} {wp : Nat → Bool} {t k : Nat} (h : (k = 0 ∧ dp = true) ∨ (0 < k ∧ k < 10 ∧ dp = false ∧ wp ((t + k) % 10) = true)) (h2 : ∀ u, u < k → 0 < u → wp ((t + u) % 10) = false) : dc_is dp wp t k := by
  rcases h with h | ⟨h, g, i, j⟩
  · exact Or.inl h
  · exact Or.inr ⟨h, g, i, j, h2⟩
theorem dc_f1 : ∀ d, d < 10 → dc_cn (decide (d = 0) || false) (dc_wp d (fun _ => false)) 10 = 1 := by decide +kernel
theorem dc_g1 : ∀ d, d < 10 → ∀ e, e < 10 → e ≤ d → dc_cn (dc_p2 d e) (dc_w2 d e) 10 = 1 := by decide +kernel
theorem dc_g2a : ∀ d, d < 10 → ∀ e, e < 10 → e ≤ d → (e = 0 ∧ (dc_p2 d e) = true) ∨ (0 < e ∧ e < 10 ∧ (dc_p2 d e) = false ∧ (dc_w2 d e) ((0 + e) % 10) = true) := by decide +kernel
theorem dc_g2b : ∀ d, d < 10 → ∀ e, e < 10 → e ≤ d → ∀ u, u < e → 0 < u → (dc_w2 d e) ((0 + u) % 10) = false := by decide +kernel
theorem dc_g2 (d : Nat) (hd : d < 10) (e : Nat) (he : e < 10) (h : e ≤ d) : dc_is (dc_p2 d e) (dc_w2 d e) 0 e := dc_isI (dc_g2a d hd e he h) (dc_g2b d hd e he h)
theorem dc_g3 : ∀ d, d < 10 → ∀ e, e < 10 → e ≤ d → dc_no false (dc_tk (dc_w2 d e) 0 e) (0 + e) := by decide +kernel
theorem dc_g4 : ∀ d, d < 10 → ∀ e, e < 10 → e ≤ d → dc_cn false (dc_tk (dc_w2 d e) 0 e) 10 = 0 := by decide +kernel
theorem dc_h1 : ∀ d, d < 10 → ∀ e, e < 10 → d < e → dc_cn (dc_p2 d e) (dc_w2 d e) 10 = 2 := by decide +kernel
theorem dc_h2a : ∀ d, d < 10 → ∀ e, e < 10 → d < e → (d = 0 ∧ (dc_p2 d e) = true) ∨ (0 < d ∧ d < 10 ∧ (dc_p2 d e) = false ∧ (dc_w2 d e) ((0 + d) % 10) = true) := by decide +kernel
theorem dc_h2b : ∀ d, d < 10 → ∀ e, e < 10 → d < e → ∀ u, u < d → 0 < u → (dc_w2 d e) ((0 + u) % 10) = false := by decide +kernel
theorem dc_h2 (d : Nat) (hd : d < 10) (e : Nat) (he : e < 10) (h : d < e) : dc_is (dc_p2 d e) (dc_w2 d e) 0 d := dc_isI (dc_h2a d hd e he h) (dc_h2b d hd e he h)
theorem dc_h3a : ∀ d, d < 10 → ∀ e, e < 10 → d < e → ((e - d) = 0 ∧ false = true) ∨ (0 < (e - d) ∧ (e - d) < 10 ∧ false = false ∧ (dc_tk (dc_w2 d e) 0 d) (((0 + d) + (e - d)) % 10) = true) := by decide +kernel
theorem dc_h3b : ∀ d, d < 10 → ∀ e, e < 10 → d < e → ∀ u, u < (e - d) → 0 < u → (dc_tk (dc_w2 d e) 0 d) (((0 + d) + u) % 10) = false := by decide +kernel
theorem dc_h3 (d : Nat) (hd : d < 10) (e : Nat) (he : e < 10) (h : d < e) : dc_is false (dc_tk (dc_w2 d e) 0 d) (0 + d) (e - d) := dc_isI (dc_h3a d hd e he h) (dc_h3b d hd e he h)
theorem dc_h4 : ∀ d, d < 10 → ∀ e, e < 10 → d < e → dc_no false (dc_tk (dc_tk (dc_w2 d e) 0 d) (0 + d) (e - d)) (0 + d + (e - d)) := by decide +kernel
theorem dc_h5 : ∀ d, d < 10 → ∀ e, e < 10 → d < e → dc_cn false (dc_tk (dc_tk (dc_w2 d e) 0 d) (0 + d) (e - d)) 10 = 0 := by decide +kernel
def dc_d2 (d e : Nat) (v w : Int32) : Int32 := if e = 0 then w else if d = 0 then v else 0
def dc_v2 (d e : Nat) (v w : Int32) : Nat → Int32 := dc_wv e w (dc_wv d v (fun _ => 0))
theorem dc_yg {d e : Nat} {v w : Int32} (he : e < 10) : dc_y (dc_d2 d e v w) (dc_v2 d e v w) 0 e = w := by
  unfold dc_y dc_d2 dc_v2 dc_wv
  by_cases z : e = 0
  · rw [if_pos z, if_pos z]
  · rw [if_neg z, if_pos ⟨z, by omega⟩]
theorem dc_yh {d e : Nat} {v w : Int32} (hd : d < 10) (he : e < 10) (h : d < e) : dc_y (dc_d2 d e v w) (dc_v2 d e v w) 0 d = v := by
  unfold dc_y dc_d2 dc_v2 dc_wv
  by_cases z : d = 0
  · rw [if_pos z, if_neg (by omega), if_pos z]
  · rw [if_neg z, if_neg (by omega), if_pos ⟨z, by omega⟩]
theorem dc_yk {d e : Nat} {v w : Int32} (hd : d < 10) (he : e < 10) (h : d < e) : dc_y (dc_d2 d e v w) (dc_v2 d e v w) (0 + d) (e - d) = w := by
  unfold dc_y dc_v2 dc_wv
  rw [if_neg (by omega), if_pos (by omega)]
section
variable {a1 a2 a3 a4 a5 a6 a7 a8 a9 a10 : Nat → Int32}
/-- the second change overtakes the first -/
theorem dc_gone {post : Int32 → St0 → Prop} {mc ms kc ks s d e : Nat} {v w : Int32} (hp : post 1 ()) (hs : s < 12) (hd : d < 10) (he : e < 10) (h : e ≤ d)
    (hA : dc_A s 0 0 (dc_p2 d e) (dc_w2 d e) (dc_d2 d e v w) (dc_v2 d e v w) a1 a2 a8 a9 a10) :
    wL_lawOf_90 post mc ms v w (nI s) (nI d) (nI e) 1 1 (nI (dc_cn (dc_p2 d e) (dc_w2 d e) 10)) kc ks 0 (nI 0) (nI 0) (dc_b s (dc_p2 d e)) a1 a2 a3 a4 a5 a6 a7 a8 a9 a10 := by
  have h9 := hA.2.2.2.1
  have K := dc_g2 d hd e he h
  refine br_t (by rw [dc_g1 d hd e he h]; rfl) ?_
  refine dc_nt hs (by omega) h9 K (br_f (by decide) (br_t (by rw [Nat.zero_add]) ?_))
  refine dc_com hs (by omega) hA K (br_f (by decide) (br_t (dc_yg he) ?_))
  refine dc_run he (dc_due hs (by omega) h9 K (by omega) he ⟨0 + 1 + 1, ?_⟩)
  refine dc_r1 (m := 0) (by omega) hs (by omega) hA K (fun b1 b2 b9 hB => ?_)
  refine dc_due0 hs (by omega) hB.2.2.2.1 (dc_g3 d hd e he h) (dc_r0 (by omega) (br_f (by decide) (br_t rfl ?_)))
  rw [dc_yg he] at hB
  have c4 := dc_g4 d hd e he h
  unfold wpX_value
  dsimp only
  refine dc_bad hs (br_t rfl ⟨pk_in s 12 hs, br_t ?_ (br_f (by decide) ?_)⟩)
  · rw [nI_clamp (show s < 2 ^ 31 by omega)]
    exact hB.1
  · rw [Nat.zero_add e]
    refine br_c (fun g => ?_) (fun g => ?_)
    · refine dc_209 hp hs hB.2.2.2.1 c4 ?_ (fun z => absurd z (by decide)) (fun _ => rfl)
      rw [hB.2.1]
      unfold dc_n
      rw [if_pos g.symm]
      rfl
    · refine dc_209 hp hs hB.2.2.2.1 c4 ?_ (fun z => absurd z (by decide)) (fun _ => rfl)
      rw [hB.2.1]
      unfold dc_n
      rw [if_neg (fun z => g z.symm)]
      rfl
/-- both changes come -/
theorem dc_both {post : Int32 → St0 → Prop} {mc ms kc ks s d e : Nat} {v w : Int32} (hp : post 1 ()) (hs : s < 12) (hd : d < 10) (he : e < 10) (h : d < e)
    (hA : dc_A s 0 0 (dc_p2 d e) (dc_w2 d e) (dc_d2 d e v w) (dc_v2 d e v w) a1 a2 a8 a9 a10) :
    wL_lawOf_90 post mc ms v w (nI s) (nI d) (nI e) 0 2 (nI (dc_cn (dc_p2 d e) (dc_w2 d e) 10)) kc ks 0 (nI 0) (nI 0) (dc_b s (dc_p2 d e)) a1 a2 a3 a4 a5 a6 a7 a8 a9 a10 := by
  have h9 := hA.2.2.2.1
  have K := dc_h2 d hd e he h
  have K3 := dc_h3 d hd e he h
  refine br_t (by rw [dc_h1 d hd e he h]; rfl) ?_
  refine dc_nt hs (by omega) h9 K (br_t rfl (br_t (by rw [Nat.zero_add]) ?_))
  refine dc_com hs (by omega) hA K (br_t rfl (br_t (dc_yh hd he h) ?_))
  refine dc_run he (dc_due hs (by omega) h9 K (by omega) he ⟨0 + 1 + 1 + 1, ?_⟩)
  refine dc_r1 (m := 0) (by omega) hs (by omega) hA K (fun b1 b2 b9 hB => ?_)
  refine dc_due hs (by omega) hB.2.2.2.1 K3 (by omega) he ?_
  refine dc_r1 (by omega) hs (by omega) hB K3 (fun c1 c2 c9 hC => ?_)
  refine dc_due0 hs (by omega) hC.2.2.2.1 (dc_h4 d hd e he h) (dc_r0 (by omega) (br_t rfl (br_t rfl ?_)))
  rw [dc_yh hd he h, dc_yk hd he h] at hC
  have c4 := dc_h5 d hd e he h
  have et : 0 + d + (e - d) = e := by omega
  unfold wpX_value
  dsimp only
  refine dc_bad hs (br_t rfl ⟨pk_in s 12 hs, br_t ?_ (br_t rfl ?_)⟩)
  · rw [nI_clamp (show s < 2 ^ 31 by omega)]
    exact hC.1
  · rw [et]
    have tail : ∀ z : Int32, nI (dc_n v w (dc_n 0 v 0)) = z → wL_lawOf_209 post mc ms (nI s) (nI e) 0 z kc ks 0 (nI e) (nI (0 + 1 + 1)) (dc_b s false) c1 c2 a3 a4 a5 a6 a7 a8 c9 a10 := fun z hz =>
      dc_209 hp hs hC.2.2.2.1 c4 (hC.2.1.trans hz) (fun _ => rfl) (fun z => absurd rfl z)
    refine br_c (fun g => br_c (fun g2 => tail _ ?_) (fun g2 => tail _ ?_)) (fun g => br_c (fun g2 => tail _ ?_) (fun g2 => tail _ ?_))
    · unfold dc_n
      rw [if_pos g2.symm, if_pos g.symm]
      rfl
    · unfold dc_n
      rw [if_neg (fun z => g2 z.symm), if_pos g.symm]
      rfl
    · unfold dc_n
      rw [if_pos g2.symm, if_neg (fun z => g z.symm)]
      rfl
    · unfold dc_n
      rw [if_neg (fun z => g2 z.symm), if_neg (fun z => g z.symm)]
      rfl
end
theorem dc_mod (x : Int32) (q : Nat) (hq : 0 < q) (hq' : q < 256) : ∃ j : Nat, j < q ∧ (x &&& 255) - (x &&& 255) / nI q * nI q = nI j := by
  obtain ⟨j, hj, e⟩ := pk_andE x (m := 255) 8 (by decide)
  refine ⟨j % q, Nat.mod_lt _ hq, ?_⟩
  rw [e]
  exact pk_rem (by omega) hq (by omega)
theorem dc_A0 (s : Nat) : dc_A s 0 0 false (fun _ => false) 0 (fun _ => 0) (fun _ => 0) (fun _ => 0) (fun _ => 0) (fun _ => 0) (fun _ => 0) :=
  ⟨rfl, rfl, fun _ => rfl, fun _ _ => rfl, fun _ _ _ => rfl⟩
theorem dc_of {post : Int32 → St0 → Prop} (hp : post 1 ()) (p0 p1 p2 p3 p4 : Int32) : wpL_lawOf post 100 1000 () p0 p1 p2 p3 p4 := by
  obtain ⟨s, hs, es⟩ := dc_mod p0 12 (by omega) (by omega)
  obtain ⟨d, hd, ed⟩ := dc_mod p3 10 (by omega) (by omega)
  obtain ⟨e, he, ee⟩ := dc_mod p4 10 (by omega) (by omega)
  refine ⟨by omega, by omega, 50, 500, by omega, by omega, ?_⟩
  unfold wpX_init
  dsimp only
  refine ⟨by omega, by omega, by omega, by omega, by omega, by omega, by omega, by omega, by omega, by omega, by omega, by omega, by omega, by omega, by omega, by omega, by omega, by omega, by omega, by omega, ?_⟩
  refine ⟨by decide, nm_r es ⟨by decide, nm_r ed ⟨by decide, nm_r ee ?_⟩⟩⟩
  refine dc_drv hs hd (dc_A0 s) (fun b8 b9 b10 hB => br_t (by rw [dc_f1 d hd]; rfl) ?_)
  refine pk_lt d e (fun z => ?_) (fun z => ?_)
  · exact dc_drv hs he hB (fun c8 c9 c10 hC => br_t rfl (dc_both hp hs hd he z hC))
  · exact dc_drv hs he hB (fun c8 c9 c10 hC => br_f (by decide) (dc_gone hp hs hd he z hC))
theorem dc_cell {post : Int32 → Prop} {L : Nat} {xs : Nat → Int32} (hL : L ≤ 5) (i : Nat) (hi : i < 5) (h : ∀ r, post r) : wpL_cellAt post L xs () (nI i) :=
  pk_le L i (fun _ => h 0) (fun z => ⟨pk_in i L z, h _⟩)
theorem i_vc (xs : Nat → Int32) (L : Nat) (hL : L ≤ 5) : wpL_law (fun r => r = 1) L xs := by
  unfold wpL_law
  refine dc_cell hL 0 (by omega) (fun r1 => ?_)
  refine dc_cell hL 1 (by omega) (fun r2 => ?_)
  refine dc_cell hL 2 (by omega) (fun r3 => ?_)
  refine dc_cell hL 3 (by omega) (fun r4 => ?_)
  refine dc_cell hL 4 (by omega) (fun r5 => ?_)
  exact ⟨100, 1000, by omega, by omega, dc_of rfl r1 r2 r3 r4 r5⟩
end
