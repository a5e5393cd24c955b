/-! MY SPEC 1: what the lists answer, over functions of places -/
set_option maxRecDepth 100000
/-- all values are none or small -/
def okV (v : Nat → Int) (n : Nat) : Prop := ∀ k : Nat, k < n → v k = -1000 ∨ (-99 ≤ v k ∧ v k ≤ 99)
def sh (v : Nat → Int) (o : Nat) : Nat → Int := fun k => v (o + k)
theorem okV_sh {v : Nat → Int} {o n m : Nat} (h : okV v m) (hn : o + n ≤ m) : okV (sh v o) n := fun k hk => h (o + k) (by omega)
theorem sh_0 (v : Nat → Int) : sh v 0 = v := by funext k; simp [sh]
theorem sh_sh (v : Nat → Int) (a b : Nat) : sh (sh v a) b = sh v (a + b) := by funext k; simp [sh, Nat.add_assoc]
/-- the first place from i on, within d places -/
def idxF (v : Nat → Int) (x : Int) (i : Nat) : Nat → Int
  | 0 => -1
  | d + 1 => if v i = x then (i : Int) else idxF v x (i + 1) d
theorem idxF_hit {v : Nat → Int} {x : Int} {i n : Nat} (h : i < n) (e : v i = x) : idxF v x i (n - i) = i := by
  rw [show n - i = (n - (i + 1)) + 1 by omega]
  simp [idxF, e]
theorem idxF_miss {v : Nat → Int} {x : Int} {i n : Nat} (h : i < n) (e : ¬ v i = x) : idxF v x i (n - i) = idxF v x (i + 1) (n - (i + 1)) := by
  rw [show n - i = (n - (i + 1)) + 1 by omega]
  simp [idxF, e]
theorem idxF_end {v : Nat → Int} {x : Int} {i n : Nat} (h : n ≤ i) : idxF v x i (n - i) = -1 := by
  rw [show n - i = 0 by omega]
  rfl
theorem idxF_rg (v : Nat → Int) (x : Int) : ∀ (d i : Nat), -1 ≤ idxF v x i d ∧ idxF v x i d < ((i + d : Nat) : Int)
  | 0, i => by simp only [idxF]; omega
  | d + 1, i => by
    have := idxF_rg v x d (i + 1)
    simp only [idxF]
    split <;> omega
/-- the last place -/
def lastF (v : Nat → Int) (x : Int) : Nat → Int
  | 0 => -1
  | k + 1 => if v k = x then (k : Int) else lastF v x k
theorem lastF_rg (v : Nat → Int) (x : Int) : ∀ n : Nat, -1 ≤ lastF v x n ∧ lastF v x n < (n : Int)
  | 0 => by simp only [lastF]; omega
  | k + 1 => by
    have := lastF_rg v x k
    simp only [lastF]
    split <;> omega
theorem lastF_hit {v : Nat → Int} {x : Int} {k : Nat} (e : v k = x) : lastF v x (k + 1) = k := by simp [lastF, e]
theorem lastF_miss {v : Nat → Int} {x : Int} {k : Nat} (e : ¬ v k = x) : lastF v x (k + 1) = lastF v x k := by simp [lastF, e]
/-- how often -/
def cntF (v : Nat → Int) (x : Int) : Nat → Nat
  | 0 => 0
  | k + 1 => cntF v x k + (if v k = x then 1 else 0)
theorem cntF_hit {v : Nat → Int} {x : Int} {k : Nat} (e : v k = x) : cntF v x (k + 1) = cntF v x k + 1 := by simp [cntF, e]
theorem cntF_miss {v : Nat → Int} {x : Int} {k : Nat} (e : ¬ v k = x) : cntF v x (k + 1) = cntF v x k := by simp [cntF, e]
theorem cntF_le (v : Nat → Int) (x : Int) : ∀ n : Nat, cntF v x n ≤ n
  | 0 => Nat.le_refl 0
  | k + 1 => by
    have := cntF_le v x k
    simp only [cntF]
    split <;> omega
theorem cntF_mono {v : Nat → Int} {x : Int} {i n : Nat} (h : i ≤ n) : cntF v x i ≤ cntF v x n := by
  induction n with
  | zero => rw [show i = 0 by omega]; exact Nat.le_refl _
  | succ k ih =>
    by_cases e : i = k + 1
    · rw [e]; exact Nat.le_refl _
    · have := ih (by omega)
      simp only [cntF]
      omega
theorem cntF_pos_of {v : Nat → Int} {x : Int} {i n : Nat} (h : i < n) (e : v i = x) : 0 < cntF v x n := by
  have h1 := cntF_mono (v := v) (x := x) (show i + 1 ≤ n by omega)
  rw [cntF_hit e] at h1
  omega
theorem cntF_0 {v : Nat → Int} {x : Int} {n : Nat} (h : ∀ i, i < n → ¬ v i = x) : cntF v x n = 0 := by
  induction n with
  | zero => rfl
  | succ k ih => rw [cntF_miss (h k (by omega)), ih (fun i hi => h i (by omega))]
theorem cntF_ex {v : Nat → Int} {x : Int} {n : Nat} (h : 0 < cntF v x n) : ∃ i, i < n ∧ v i = x := by
  induction n with
  | zero => simp [cntF] at h
  | succ k ih =>
    by_cases e : v k = x
    · exact ⟨k, by omega, e⟩
    · rw [cntF_miss e] at h
      obtain ⟨i, h1, h2⟩ := ih h
      exact ⟨i, by omega, h2⟩
theorem cntF_congr {v w : Nat → Int} {x : Int} {n : Nat} (h : ∀ i, i < n → v i = w i) : cntF v x n = cntF w x n := by
  induction n with
  | zero => rfl
  | succ k ih => simp only [cntF]; rw [ih (fun i hi => h i (by omega)), h k (by omega)]
theorem idxF_cnt (v : Nat → Int) (x : Int) (n : Nat) : 0 ≤ idxF v x 0 n ↔ 0 < cntF v x n := by
  have key : ∀ (d i : Nat), (0 ≤ idxF v x i d ↔ ∃ k, i ≤ k ∧ k < i + d ∧ v k = x) := by
    intro d
    induction d with
    | zero => intro i; simp only [idxF]; constructor; · intro h; omega
              · rintro ⟨k, h1, h2, -⟩; omega
    | succ d ih =>
      intro i
      simp only [idxF]
      by_cases e : v i = x
      · rw [if_pos e]
        exact ⟨fun _ => ⟨i, by omega, by omega, e⟩, fun _ => by omega⟩
      · rw [if_neg e, ih]
        constructor
        · rintro ⟨k, h1, h2, h3⟩; exact ⟨k, by omega, by omega, h3⟩
        · rintro ⟨k, h1, h2, h3⟩
          by_cases hk : k = i
          · subst hk; exact absurd h3 e
          · exact ⟨k, by omega, by omega, h3⟩
  rw [key]
  constructor
  · rintro ⟨k, -, h2, h3⟩; exact cntF_pos_of (by omega) h3
  · intro h
    obtain ⟨k, h1, h2⟩ := cntF_ex h
    exact ⟨k, by omega, by omega, h2⟩
/-- how many places of the one stand in the other -/
def shF (v : Nat → Int) (w : Nat → Int) (m : Nat) : Nat → Nat
  | 0 => 0
  | k + 1 => shF v w m k + (if 0 < cntF w (v k) m then 1 else 0)
theorem shF_hit {v w : Nat → Int} {m k : Nat} (e : 0 < cntF w (v k) m) : shF v w m (k + 1) = shF v w m k + 1 := by simp [shF, e]
theorem shF_miss {v w : Nat → Int} {m k : Nat} (e : ¬ 0 < cntF w (v k) m) : shF v w m (k + 1) = shF v w m k := by simp only [shF]; rw [if_neg e]; rfl
theorem shF_le (v w : Nat → Int) (m : Nat) : ∀ n : Nat, shF v w m n ≤ n
  | 0 => Nat.le_refl 0
  | k + 1 => by
    have := shF_le v w m k
    simp only [shF]
    split <;> omega
theorem shF_mono {v w : Nat → Int} {m i n : Nat} (h : i ≤ n) : shF v w m i ≤ shF v w m n := by
  induction n with
  | zero => rw [show i = 0 by omega]; exact Nat.le_refl _
  | succ k ih =>
    by_cases e : i = k + 1
    · rw [e]; exact Nat.le_refl _
    · have := ih (by omega)
      simp only [shF]
      omega
/-- the places ahead of i all stand there -/
theorem shF_all {v w : Nat → Int} {m n : Nat} (h : ∀ i, i < n → 0 < cntF w (v i) m) : shF v w m n = n := by
  induction n with
  | zero => rfl
  | succ k ih => rw [shF_hit (h k (by omega)), ih (fun i hi => h i (by omega))]
theorem shF_none {v w : Nat → Int} {m n : Nat} (h : ∀ i, i < n → ¬ 0 < cntF w (v i) m) : shF v w m n = 0 := by
  induction n with
  | zero => rfl
  | succ k ih => rw [shF_miss (h k (by omega)), ih (fun i hi => h i (by omega))]
theorem shF_lt {v w : Nat → Int} {m i n : Nat} (h : i < n) (e : ¬ 0 < cntF w (v i) m) : shF v w m n < n := by
  induction n with
  | zero => omega
  | succ k ih =>
    by_cases hk : i = k
    · subst hk
      rw [shF_miss e]
      have := shF_le v w m i
      omega
    · have := ih (by omega)
      simp only [shF]
      split <;> omega
theorem shF_pos {v w : Nat → Int} {m i n : Nat} (h : i < n) (e : 0 < cntF w (v i) m) : 0 < shF v w m n := by
  have h1 := shF_mono (v := v) (w := w) (m := m) (show i + 1 ≤ n by omega)
  rw [shF_hit e] at h1
  omega
/-- the code, the sum -/
def hashF (v : Nat → Int) : Nat → Int
  | 0 => 1
  | k + 1 => 31 * hashF v k + (if v k = -1000 then 0 else v k)
def sumF (v : Nat → Int) : Nat → Int
  | 0 => 0
  | k + 1 => sumF v k + (if v k = -1000 then 0 else v k)
theorem sumF_rg {v : Nat → Int} {n : Nat} (h : okV v n) : -(99 * n : Int) ≤ sumF v n ∧ sumF v n ≤ 99 * n := by
  induction n with
  | zero => simp [sumF]
  | succ k ih =>
    have h1 := ih (fun i hi => h i (by omega))
    have h2 := h k (by omega)
    simp only [sumF]
    split <;> omega
/-- the first n places are the same -/
def preF (v w : Nat → Int) : Nat → Bool
  | 0 => true
  | k + 1 => preF v w k && decide (v k = w k)
theorem preF_iff {v w : Nat → Int} : ∀ {n : Nat}, preF v w n = true ↔ ∀ i, i < n → v i = w i
  | 0 => by simp [preF]
  | k + 1 => by
    simp only [preF, Bool.and_eq_true, decide_eq_true_eq]
    rw [preF_iff (n := k)]
    constructor
    · rintro ⟨h1, h2⟩ i hi
      by_cases e : i = k
      · rw [e]; exact h2
      · exact h1 i (by omega)
    · intro h
      exact ⟨fun i hi => h i (by omega), h k (by omega)⟩
theorem preF_no {v w : Nat → Int} {i n : Nat} (h : i < n) (e : ¬ v i = w i) : ¬ preF v w n = true := fun z => e (preF_iff.mp z i h)
