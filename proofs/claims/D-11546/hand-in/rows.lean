section
/-- a branch that follows a pure 'if' -/
theorem bb_if {α : Type} {P : α → Prop} {c : Prop} [Decidable c] {x y : α} {A B : Prop} (h : P (if c then x else y)) (f : c → P x → A) (g : ¬ c → P y → B) : (c → A) ∧ (¬ c → B) :=
  ⟨fun z => f z (by rw [if_pos z] at h; exact h), fun z => g z (by rw [if_neg z] at h; exact h)⟩

/-! the law's own helpers: what each computes, and its walk -/
def bb_apart (u w : Int32) : Int32 := (((u ^^^ w) &&& 1) + (((u ^^^ w) >>> ((1 : Int32) &&& 31)) &&& 1)) + (((u ^^^ w) >>> ((2 : Int32) &&& 31)) &&& 1)
theorem bb_apart_w {post : Int32 → Prop} {u w : Int32} (h : post (bb_apart u w)) : wpL_apart post () u w := by
  intro x e
  subst e
  exact h

def bb_nearer (f u w : Int32) : Nat → Int32 → Int32
  | 0, _ => 0
  | m + 1, x =>
    if ((f >>> (x &&& 31)) &&& 1) = 1 then
      (if (x ^^^ w) = (u ^^^ w) then bb_nearer f u w m (x + 1)
       else (if ((x ^^^ w) &&& (u ^^^ w)) = (x ^^^ w) then 1 else bb_nearer f u w m (x + 1)))
    else bb_nearer f u w m (x + 1)
theorem bb_nearer_2 {post : Int32 → Prop} {f u w : Int32} : ∀ (m k : Nat), k + m = 8 → post (bb_nearer f u w m (nI k)) → wL_nearer_2 post f u w (m + 1) (nI k) := by
  intro m
  induction m with
  | zero =>
    intro k hk h
    exact pk_le 8 k (fun _ => h) (fun z => absurd z (by omega))
  | succ m ih =>
    intro k hk h
    have e : nI k + 1 = nI (k + 1) := nI_1 k
    have hn := ih (k + 1) (by omega)
    rw [bb_nearer, e] at h
    refine pk_le 8 k (fun z => absurd z (by omega)) (fun _ => nm_e ?_)
    exact bb_if (P := post) h
      (fun _ h => bb_if (P := post) h (fun _ h => nm_r e (hn h)) (fun _ h => bb_if (P := post) h (fun _ h => h) (fun _ h => nm_r e (hn h))))
      (fun _ h => nm_r e (hn h))
theorem bb_nearer_w {post : Int32 → Prop} {f u w : Int32} (h : post (bb_nearer f u w 8 (nI 0))) : wpL_nearer post () f u w :=
  ⟨9, bb_nearer_2 8 0 rfl h⟩

def bb_upd13 (b f u : Int32) : Nat → Int32 → Int32 → Int32
  | 0, s, _ => s
  | m + 1, s, w =>
    if (((f >>> (u &&& 31)) &&& (b >>> (w &&& 31))) &&& 1) = 1 then
      (if bb_nearer f u w 8 (nI 0) = 0 then bb_upd13 b f u m (s ||| ((1 : Int32) <<< (u &&& 31))) (w + 1)
       else bb_upd13 b f u m s (w + 1))
    else bb_upd13 b f u m s (w + 1)
theorem bb_updated_13 {post : Int32 → Prop} {J : Int32 → Int32 → Prop} {b f : Int32} {l : Nat} : ∀ (m k : Nat) (s : Int32), k + m = 8 → J (bb_upd13 b f (nI l) m s (nI k)) (nI (l + 1)) → wL_updated_13 post J b f (nI l) (m + 1) s (nI k) := by
  intro m
  induction m with
  | zero =>
    intro k s hk h
    exact pk_le 8 k (fun _ => nm_r (nI_1 l) h) (fun z => absurd z (by omega))
  | succ m ih =>
    intro k s hk h
    have e : nI k + 1 = nI (k + 1) := nI_1 k
    have hn := fun s => ih (k + 1) s (by omega)
    rw [bb_upd13, e] at h
    refine pk_le 8 k (fun z => absurd z (by omega)) (fun _ => ?_)
    refine bb_if (P := fun r => J r (nI (l + 1))) h (fun _ h => ?_) (fun _ h => nm_r e (hn _ h))
    refine bb_nearer_w ?_
    exact bb_if (P := fun r => J r (nI (l + 1))) h (fun _ h => nm_e (nm_r e (hn _ h))) (fun _ h => nm_r e (hn _ h))

def bb_upd4 (b f : Int32) : Nat → Int32 → Int32 → Int32
  | 0, s, _ => s
  | m + 1, s, u => bb_upd4 b f m (bb_upd13 b f u 8 s (nI 0)) (u + 1)
theorem bb_updated_4 {post : Int32 → Prop} {b f : Int32} : ∀ (m k : Nat) (s : Int32), k + m = 8 → post (bb_upd4 b f m s (nI k)) → wL_updated_4 post b f (m + 1) s (nI k) := by
  intro m
  induction m with
  | zero =>
    intro k s hk h
    exact pk_le 8 k (fun _ => h) (fun z => absurd z (by omega))
  | succ m ih =>
    intro k s hk h
    rw [bb_upd4, nI_1 k] at h
    exact pk_le 8 k (fun z => absurd z (by omega)) (fun _ => ⟨9, bb_updated_13 8 0 s rfl (ih (k + 1) _ (by omega) h)⟩)
def bb_updL (b f : Int32) : Int32 := bb_upd4 b f 8 0 (nI 0)
theorem bb_updated_w {post : Int32 → Prop} {b f : Int32} (h : post (bb_updL b f)) : wpL_updated post () b f :=
  ⟨9, bb_updated_4 8 0 0 rfl h⟩

def bb_d22 (b u : Int32) : Nat → Int32 → Int32 → Int32
  | 0, d, _ => d
  | m + 1, d, w =>
    if ((b >>> (w &&& 31)) &&& 1) = 1 then
      (if d ≤ bb_apart u w then bb_d22 b u m d (w + 1) else bb_d22 b u m (bb_apart u w) (w + 1))
    else bb_d22 b u m d (w + 1)
def bb_Q (post : Int32 → Prop) (J : Int32 → Int32 → Int32 → Prop) (b f s l u d : Int32) : Prop :=
  ((((f >>> (u &&& 31)) &&& 1) = 1 → (((l ≤ d → (wL_nearest_87 post J b f s l u d)) ∧ (¬ l ≤ d → (wL_nearest_87 post J b f 0 d u d))))) ∧ (¬ ((f >>> (u &&& 31)) &&& 1) = 1 → (wL_nearest_87 post J b f s l u d)))
theorem bb_nearest_22 {post : Int32 → Prop} {J : Int32 → Int32 → Int32 → Prop} {b f s l u : Int32} : ∀ (m k : Nat) (d : Int32), k + m = 8 → bb_Q post J b f s l u (bb_d22 b u m d (nI k)) → wL_nearest_22 post J b f s l u (m + 1) d (nI k) := by
  intro m
  induction m with
  | zero =>
    intro k d hk h
    exact pk_le 8 k (fun _ => h) (fun z => absurd z (by omega))
  | succ m ih =>
    intro k d hk h
    have e : nI k + 1 = nI (k + 1) := nI_1 k
    have hn := fun d => ih (k + 1) d (by omega)
    rw [bb_d22, e] at h
    refine pk_le 8 k (fun z => absurd z (by omega)) (fun _ => ?_)
    refine bb_if (P := fun r => bb_Q post J b f s l u r) h (fun _ h => ?_) (fun _ h => nm_r e (hn _ h))
    refine bb_apart_w ?_
    refine bb_if (P := fun r => bb_Q post J b f s l u r) h (fun _ h => nm_r e (hn _ h)) (fun _ h => ?_)
    refine bb_apart_w ?_
    exact nm_r e (hn _ h)

def bb_n8 (b f : Int32) : Nat → Int32 → Int32 → Int32 → Int32
  | 0, s, _, _ => s
  | m + 1, s, l, u =>
    if ((f >>> (u &&& 31)) &&& 1) = 1 then
      (if l ≤ bb_d22 b u 8 8 (nI 0) then
        (if bb_d22 b u 8 8 (nI 0) = l then bb_n8 b f m (s ||| ((1 : Int32) <<< (u &&& 31))) l (u + 1) else bb_n8 b f m s l (u + 1))
       else bb_n8 b f m (0 ||| ((1 : Int32) <<< (u &&& 31))) (bb_d22 b u 8 8 (nI 0)) (u + 1))
    else bb_n8 b f m s l (u + 1)
theorem bb_nearest_8 {post : Int32 → Prop} {b f : Int32} : ∀ (m k : Nat) (s l : Int32), k + m = 8 → post (bb_n8 b f m s l (nI k)) → wL_nearest_8 post b f (m + 1) s l (nI k) := by
  intro m
  induction m with
  | zero =>
    intro k s l hk h
    exact pk_le 8 k (fun _ => h) (fun z => absurd z (by omega))
  | succ m ih =>
    intro k s l hk h
    have e : nI k + 1 = nI (k + 1) := nI_1 k
    have hn := fun s l => ih (k + 1) s l (by omega)
    rw [bb_n8, e] at h
    refine pk_le 8 k (fun z => absurd z (by omega)) (fun _ => ⟨9, bb_nearest_22 8 0 8 rfl ?_⟩)
    refine bb_if (P := post) h (fun c h => ?_) (fun c h => ?_)
    · refine bb_if (P := post) h (fun _ h => ?_) (fun _ h => ?_)
      · exact br_t c (bb_if (P := post) h (fun _ h => nm_e (nm_r e (hn _ _ h))) (fun _ h => nm_r e (hn _ _ h)))
      · exact br_t c (br_t rfl (nm_e (nm_r e (hn _ _ h))))
    · exact br_f c (nm_r e (hn _ _ h))
def bb_nearL (b f : Int32) : Int32 := bb_n8 b f 8 0 9 (nI 0)
theorem bb_nearestL_w {post : Int32 → Prop} {b f : Int32} (h : post (bb_nearL b f)) : wpL_nearest post () b f :=
  ⟨9, bb_nearest_8 8 0 0 9 rfl h⟩

def bb_latom (v : Int32) : Int32 := if v = 0 then 170 else (if v = 1 then 204 else 240)
theorem bb_latom_w {post : Int32 → Prop} {v : Int32} (h : post (bb_latom v)) : wpL_atom post () v :=
  bb_if (P := post) h (fun _ h => h) (fun _ h => bb_if (P := post) h (fun _ h => h) (fun _ h => h))
def bb_join (g a b : Int32) : Int32 := if g = 1 then a &&& b else (if g = 2 then a ||| b else (if g = 3 then a ^^^ b else ((255 - a) ||| b)))
theorem bb_join_w {post : Int32 → Prop} {g a b : Int32} (h : post (bb_join g a b)) : wpL_join post () g a b :=
  bb_if (P := post) h (fun _ h => h) (fun _ h => bb_if (P := post) h (fun _ h => h) (fun _ h => bb_if (P := post) h (fun _ h => h) (fun _ h => h)))
end
section
/-! the component's methods over the state (3, depth, 8, 255, beliefs, stack, bb_z, rings, rings) -/
def bb_z : Nat → Int64 := vp_updL (vp_updL (vp_updL (vp_updL (vp_updL (vp_updL (fun _ => 0) 0 6148914691236517205) 1 3689348814741910323) 2 1085102592571150095) 3 71777214294589695) 4 281470681808895) 5 4294967295
theorem bb_10 : (1 : Int32) - 1 = 0 := by decide
theorem bb_21 : (2 : Int32) - 1 = 1 := by decide
theorem bb_c1 : (1 : Int32).toNatClampNeg = 1 := by decide
theorem bb_u0 {f : Nat → Int64} {x : Int64} : vp_updL f 0 x 0 = x := pk_uLs
theorem bb_u1 {f : Nat → Int64} {x : Int64} : vp_updL f 0 x 1 = f 1 := pk_uLn (by decide)

theorem bb_init_w {post : St2 → Prop} (h : ∀ a1 : Nat → Int64, a1 0 = 255 → a1 1 = 255 → post (3, 0, 8, 255, a1, (fun _ => 0), bb_z, (fun _ => 0), (fun _ => 0))) : wpX_init post 5 33 (0, 0, 0, 0) 3 := by
  have e : ((1 : Int64) <<< ((8 : Int32).toInt64 &&& 63)) - 1 = 255 := by decide
  unfold wpX_init
  dsimp only
  refine ⟨by omega, by omega, by omega, by omega, by omega, by omega, by omega, by omega, by omega, by omega, br_t (by decide) ?_⟩
  refine br_t (by decide) ?_
  refine nm_r (e' := 8) (by decide) (br_f (by decide) ?_)
  rw [e]
  refine nm_e (nm_e (nm_e (nm_e (nm_e (nm_e ⟨4, ?_⟩)))))
  refine pk_le 3 0 (fun z => absurd z (by omega)) (fun _ => ⟨pk_in 0 3 (by omega), nm_e (nm_r (nI_1 0) ?_)⟩)
  refine pk_le 3 1 (fun z => absurd z (by omega)) (fun _ => ⟨pk_in 1 3 (by omega), nm_e (nm_r (nI_1 1) ?_)⟩)
  refine pk_le 3 2 (fun z => absurd z (by omega)) (fun _ => ⟨pk_in 2 3 (by omega), nm_e (nm_r (nI_1 2) ?_)⟩)
  refine pk_le 3 3 (fun _ => ?_) (fun z => absurd z (by omega))
  exact h _ (by decide) (by decide)

def bb_at (v : Nat) : Int64 := 255 &&& ((bb_z v) ^^^ (-1))
theorem bb_atom_w {post : Int32 → St2 → Prop} {a1 a2 a4 a5 : Nat → Int64} {d v : Nat} (hd : d < 8) (hv : v < 3) (h : post (nI (d + 1)) (3, nI (d + 1), 8, 255, a1, vp_updL a2 d (bb_at v), bb_z, a4, a5)) : wpX_atom post (3, nI d, 8, 255, a1, a2, bb_z, a4, a5) (nI v) := by
  unfold wpX_atom
  dsimp only
  unfold wpX_isVar
  dsimp only
  refine pk_lt v 0 (fun z => absurd z (by omega)) (fun _ => ?_)
  refine pk_le 3 v (fun z => absurd z (by omega)) (fun _ => ?_)
  refine br_f (by decide) ?_
  refine pk_eq d 8 (fun z => absurd z (by omega)) (fun _ => ⟨pk_in v 6 (by omega), pk_in d 8 hd, ?_⟩)
  rw [nI_clamp (show d < 2 ^ 31 by omega), nI_clamp (show v < 2 ^ 31 by omega)]
  exact nm_e (nm_r (nI_1 d) h)

def bb_conn (g : Int32) (x y : Int64) : Int64 := if g = 2 then x ||| y else (if g = 3 then x ^^^ y else (if g = 4 then 255 &&& ((x ^^^ (-1)) ||| y) else x &&& y))
theorem bb_149 {post : Int32 → St2 → Prop} {x : Int64} {a1 a2 a3 a4 a5 : Nat → Int64} (h : post 1 (3, 1, 8, 255, a1, vp_updL a2 0 x, a3, a4, a5)) : wX_connect_149 post x 3 1 8 255 a1 a2 a3 a4 a5 := by
  unfold wX_connect_149
  rw [bb_10, sb_cl0]
  exact ⟨pk_in 0 8 (by omega), nm_e h⟩
theorem bb_24 {post : Int32 → St2 → Prop} {g : Int32} {a1 a2 a3 a4 a5 : Nat → Int64} (hg : ¬ g = 0) (h : post 1 (3, 1, 8, 255, a1, vp_updL a2 0 (bb_conn g (a2 0) (a2 1)), a3, a4, a5)) : wX_connect_24 post g 2 2 3 2 8 255 a1 a2 a3 a4 a5 := by
  unfold wX_connect_24
  rw [bb_21, bb_c1]
  refine br_t (by decide) ⟨pk_in 1 8 (by omega), nm_e (br_f hg (nm_e ?_))⟩
  rw [bb_10, sb_cl0]
  refine ⟨pk_in 0 8 (by omega), nm_e (nm_e ?_)⟩
  exact bb_if (P := fun r => post 1 (3, 1, 8, 255, a1, vp_updL a2 0 r, a3, a4, a5)) h (fun _ h => nm_e (bb_149 h))
    (fun _ h => bb_if (P := fun r => post 1 (3, 1, 8, 255, a1, vp_updL a2 0 r, a3, a4, a5)) h (fun _ h => nm_e (bb_149 h))
      (fun _ h => bb_if (P := fun r => post 1 (3, 1, 8, 255, a1, vp_updL a2 0 r, a3, a4, a5)) h (fun _ h => nm_e (bb_149 h))
        (fun _ h => bb_149 h)))
theorem bb_connect_w {post : Int32 → St2 → Prop} {g : Nat} {a1 a2 a3 a4 a5 : Nat → Int64} (h1 : 1 ≤ g) (h4 : g ≤ 4) (h : post 1 (3, 1, 8, 255, a1, vp_updL a2 0 (bb_conn (nI g) (a2 0) (a2 1)), a3, a4, a5)) : wpX_connect post (3, 2, 8, 255, a1, a2, a3, a4, a5) (nI g) := by
  unfold wpX_connect
  dsimp only
  refine pk_lt g 0 (fun z => absurd z (by omega)) (fun _ => ?_)
  refine pk_le g 4 (fun _ => ?_) (fun z => absurd z (by omega))
  exact br_f (nI_ne0 (by omega) (by omega)) (bb_24 (nI_ne0 (by omega) (by omega)) h)

theorem bb_isB0 {post : Int32 → Prop} (h : post 1) : wpX_isBelief post () 0 := br_f (by decide) (br_f (by decide) h)
theorem bb_isB1 {post : Int32 → Prop} (h : post 1) : wpX_isBelief post () 1 := br_f (by decide) (br_f (by decide) h)
theorem bb_pop_w {post : Int64 → St2 → Prop} {n w : Int32} {al : Int64} {a1 a2 a3 a4 a5 : Nat → Int64} (h : post (a2 0) (n, 0, w, al, a1, a2, a3, a4, a5)) : wpX_pop post (n, 1, w, al, a1, a2, a3, a4, a5) := by
  unfold wpX_pop
  dsimp only
  refine nm_r bb_10 ⟨pk_in 0 8 (by omega), ?_⟩
  rw [sb_cl0]
  exact h

def bb_o1 (p : Int64) : Int64 := p - (((p.toUInt64 >>> ((1 : Int32).toInt64.toUInt64 &&& Int64.toUInt64 63)).toInt64) &&& 6148914691236517205)
def bb_o2 (x : Int64) : Int64 := (x &&& 3689348814741910323) + (((x.toUInt64 >>> ((2 : Int32).toInt64.toUInt64 &&& Int64.toUInt64 63)).toInt64) &&& 3689348814741910323)
def bb_o3 (x : Int64) : Int64 := (x + ((x.toUInt64 >>> ((4 : Int32).toInt64.toUInt64 &&& Int64.toUInt64 63)).toInt64)) &&& 1085102592571150095
def bb_o4 (x : Int64) : Int32 := (((x * 72340172838076673).toUInt64 >>> ((56 : Int32).toInt64.toUInt64 &&& Int64.toUInt64 63)).toInt64).toInt32
def bb_ones (p : Int64) : Int32 := bb_o4 (bb_o3 (bb_o2 (bb_o1 p)))
theorem bb_ones_w {post : Int32 → Prop} {p : Int64} (h : post (bb_ones p)) : wpX_ones post () p := by
  intro x1 e1 x2 e2 x3 e3
  subst e1
  subst e2
  subst e3
  exact h
theorem bb_become_w {post : Int32 → St2 → Prop} {n d w : Int32} {al s : Int64} {a1 a2 a3 a4 a5 : Nat → Int64} (h : post (bb_ones s) (n, d, w, al, vp_updL a1 0 s, a2, a3, a4, a5)) : wpX_become post (n, d, w, al, a1, a2, a3, a4, a5) 0 s := by
  unfold wpX_become
  dsimp only
  rw [sb_cl0]
  exact ⟨pk_in 0 3 (by omega), nm_e (bb_ones_w h)⟩
theorem bb_expand_w {post : Int32 → St2 → Prop} {n w : Int32} {al : Int64} {a1 a2 a3 a4 a5 : Nat → Int64} (h : post (bb_ones (a1 0 &&& a2 0)) (n, 0, w, al, vp_updL a1 0 (a1 0 &&& a2 0), a2, a3, a4, a5)) : wpX_expand post (n, 1, w, al, a1, a2, a3, a4, a5) 0 := by
  unfold wpX_expand
  dsimp only
  refine bb_isB0 (br_f (by decide) (br_f (by decide) (bb_pop_w ?_)))
  dsimp only
  rw [sb_cl0]
  exact ⟨pk_in 0 3 (by omega), bb_become_w h⟩

def bb_ent (b f : Int64) : Int32 := if (b &&& (f ^^^ (-1))) = 0 then 1 else 0
theorem bb_entails_w {post : Int32 → Prop} {n w : Int32} {al : Int64} {a1 a2 a3 a4 a5 : Nat → Int64} (h : post (bb_ent (a1 0) (a2 0))) : wpX_entails post (n, 1, w, al, a1, a2, a3, a4, a5) 0 := by
  unfold wpX_entails
  dsimp only
  refine bb_isB0 (br_f (by decide) (br_f (by decide) ?_))
  rw [bb_10, sb_cl0]
  exact ⟨pk_in 0 3 (by omega), pk_in 0 8 (by omega), bb_if (P := post) h (fun _ h => h) (fun _ h => h)⟩

def bb_has (s : Int64) (x : Int32) : Int32 := if (((s.toUInt64 >>> (x.toInt64.toUInt64 &&& Int64.toUInt64 63)).toInt64) &&& 1) = 1 then 1 else 0
theorem bb_has_w {post : Int32 → Prop} {s : Int64} {x : Int32} (h : post (bb_has s x)) : wpX_has post () s x :=
  bb_if (P := post) h (fun _ h => h) (fun _ h => h)
def bb_hold (s : Int64) (x : Int32) : Int32 := if bb_has s x = 0 then 0 else 1
theorem bb_holds_w {post : Int32 → Prop} {n d : Int32} {al : Int64} {a1 a2 a3 a4 a5 : Nat → Int64} {k : Nat} (hk : k < 8) (h : post (bb_hold (a1 0) (nI k))) : wpX_holds post (n, d, 8, al, a1, a2, a3, a4, a5) 0 (nI k) := by
  unfold wpX_holds
  dsimp only
  refine bb_isB0 (br_f (by decide) ?_)
  unfold wpX_isWorld
  dsimp only
  refine pk_lt k 0 (fun z => absurd z (by omega)) (fun _ => ?_)
  refine pk_le 8 k (fun z => absurd z (by omega)) (fun _ => ?_)
  refine br_f (by decide) ⟨pk_in 0 3 (by omega), ?_⟩
  rw [sb_cl0]
  refine bb_has_w ?_
  exact bb_if (P := post) h (fun _ h => h) (fun _ h => h)
theorem bb_count0_w {post : Int32 → Prop} {n d w : Int32} {al : Int64} {a1 a2 a3 a4 a5 : Nat → Int64} (h : post (bb_ones (a1 0))) : wpX_count post (n, d, w, al, a1, a2, a3, a4, a5) 0 := by
  unfold wpX_count
  dsimp only
  refine bb_isB0 (br_f (by decide) ⟨pk_in 0 3 (by omega), ?_⟩)
  rw [sb_cl0]
  exact bb_ones_w h
theorem bb_count1_w {post : Int32 → Prop} {n d w : Int32} {al : Int64} {a1 a2 a3 a4 a5 : Nat → Int64} (h : post (bb_ones (a1 1))) : wpX_count post (n, d, w, al, a1, a2, a3, a4, a5) 1 := by
  unfold wpX_count
  dsimp only
  refine bb_isB1 (br_f (by decide) ⟨pk_in 1 3 (by omega), ?_⟩)
  rw [bb_c1]
  exact bb_ones_w h

/-! swapped, grownOnce, nearest, shifted, minimal -/
def bb_swap (s : Int64) (x : Int32) : Int64 := ((s &&& (bb_z x.toNatClampNeg)) <<< (((1 : Int32) <<< (x &&& 31)).toInt64 &&& 63)) ||| (((s.toUInt64 >>> (((1 : Int32) <<< (x &&& 31)).toInt64.toUInt64 &&& Int64.toUInt64 63)).toInt64) &&& (bb_z x.toNatClampNeg))
theorem bb_swapped_w {post : Int64 → Prop} {n d w : Int32} {al s : Int64} {a1 a2 a4 a5 : Nat → Int64} {v : Nat} (hv : v < 6) (h : post (bb_swap s (nI v))) : wpX_swapped post (n, d, w, al, a1, a2, bb_z, a4, a5) s (nI v) := by
  unfold wpX_swapped
  dsimp only
  exact nm_e ⟨pk_in v 6 hv, pk_in v 6 hv, h⟩

def bb_gr (s : Int64) : Nat → Int64 → Int32 → Int64
  | 0, g, _ => g
  | m + 1, g, x => bb_gr s m (g ||| bb_swap s x) (x + 1)
theorem bb_grown_5 {post : Int64 → Prop} {d w : Int32} {al s : Int64} {a1 a2 a4 a5 : Nat → Int64} : ∀ (m k : Nat) (g : Int64), k + m = 3 → post (bb_gr s m g (nI k)) → wX_grownOnce_5 post s 3 d w al a1 a2 bb_z a4 a5 (m + 1) g (nI k) := by
  intro m
  induction m with
  | zero =>
    intro k g hk h
    exact pk_le 3 k (fun _ => h) (fun z => absurd z (by omega))
  | succ m ih =>
    intro k g hk h
    rw [bb_gr, nI_1 k] at h
    refine pk_le 3 k (fun z => absurd z (by omega)) (fun _ => bb_swapped_w (by omega) ?_)
    exact nm_e (nm_r (nI_1 k) (ih (k + 1) _ (by omega) h))
def bb_grown (s : Int64) : Int64 := bb_gr s 3 s (nI 0)
theorem bb_grown_w {post : Int64 → Prop} {d w : Int32} {al s : Int64} {a1 a2 a4 a5 : Nat → Int64} (h : post (bb_grown s)) : wpX_grownOnce post (3, d, w, al, a1, a2, bb_z, a4, a5) s := by
  unfold wpX_grownOnce
  dsimp only
  exact ⟨4, bb_grown_5 3 0 s rfl h⟩

def bb_nx (f : Int64) : Nat → Int64 → Int64
  | 0, g => g &&& f
  | m + 1, g => if (g &&& f) = 0 then bb_nx f m (bb_grown g) else g &&& f
theorem bb_nearest_20 {post : Int64 → Prop} {d w : Int32} {al f : Int64} {a1 a2 a4 a5 : Nat → Int64} : ∀ (m k : Nat) (g : Int64), k + m = 3 → post (bb_nx f m g) → wX_nearest_20 post f 3 d w al a1 a2 bb_z a4 a5 (m + 1) g (nI k) := by
  intro m
  induction m with
  | zero =>
    intro k g hk h
    exact pk_le 3 k (fun _ => h) (fun z => absurd z (by omega))
  | succ m ih =>
    intro k g hk h
    rw [bb_nx] at h
    refine pk_le 3 k (fun z => absurd z (by omega)) (fun _ => ?_)
    exact bb_if (P := post) h (fun _ h => bb_grown_w (nm_r (nI_1 k) (ih (k + 1) _ (by omega) h))) (fun _ h => h)
def bb_nearX (s f : Int64) : Int64 := if s = 0 then f else (if f = 0 then f else bb_nx f 3 s)
theorem bb_nearestX_w {post : Int64 → Prop} {d w : Int32} {al s f : Int64} {a1 a2 a4 a5 : Nat → Int64} (h : post (bb_nearX s f)) : wpX_nearest post (3, d, w, al, a1, a2, bb_z, a4, a5) s f := by
  unfold wpX_nearest
  dsimp only
  exact bb_if (P := post) h (fun _ h => h) (fun _ h => bb_if (P := post) h (fun _ h => h) (fun _ h => ⟨4, bb_nearest_20 3 0 s rfl h⟩))

def bb_sh (w : Int32) : Nat → Int64 → Int32 → Int64
  | 0, s, _ => s
  | m + 1, s, x => if ((w >>> (x &&& 31)) &&& 1) = 1 then bb_sh w m (bb_swap s x) (x + 1) else bb_sh w m s (x + 1)
theorem bb_shifted_6 {post : Int64 → Prop} {x d w : Int32} {al : Int64} {a1 a2 a4 a5 : Nat → Int64} : ∀ (m k : Nat) (s : Int64), k + m = 3 → post (bb_sh x m s (nI k)) → wX_shifted_6 post x 3 d w al a1 a2 bb_z a4 a5 (m + 1) s (nI k) := by
  intro m
  induction m with
  | zero =>
    intro k s hk h
    exact pk_le 3 k (fun _ => h) (fun z => absurd z (by omega))
  | succ m ih =>
    intro k s hk h
    have e : nI k + 1 = nI (k + 1) := nI_1 k
    have hn := fun s => ih (k + 1) s (by omega)
    rw [bb_sh, e] at h
    refine pk_le 3 k (fun z => absurd z (by omega)) (fun _ => ?_)
    exact bb_if (P := post) h (fun _ h => bb_swapped_w (by omega) (nm_r e (hn _ h))) (fun _ h => nm_r e (hn _ h))
def bb_shift (s : Int64) (x : Int32) : Int64 := bb_sh x 3 s (nI 0)
theorem bb_shifted_w {post : Int64 → Prop} {x d w : Int32} {al s : Int64} {a1 a2 a4 a5 : Nat → Int64} (h : post (bb_shift s x)) : wpX_shifted post (3, d, w, al, a1, a2, bb_z, a4, a5) s x := by
  unfold wpX_shifted
  dsimp only
  exact ⟨4, bb_shifted_6 3 0 s rfl h⟩

def bb_ab (u : Int64) : Nat → Int64 → Int32 → Int64
  | 0, a, _ => a
  | m + 1, a, x => bb_ab u m (a ||| ((u &&& (bb_z x.toNatClampNeg)) <<< (((1 : Int32) <<< (x &&& 31)).toInt64 &&& 63))) (x + 1)
theorem bb_minimal_43 {post : Int64 → Prop} {d w : Int32} {al s u : Int64} {a1 a2 a4 a5 : Nat → Int64} : ∀ (m k : Nat) (a : Int64), k + m = 3 → post (s &&& ((bb_ab u m a (nI k)) ^^^ (-1))) → wX_minimal_43 post s u 3 d w al a1 a2 bb_z a4 a5 (m + 1) a (nI k) := by
  intro m
  induction m with
  | zero =>
    intro k a hk h
    exact pk_le 3 k (fun _ => h) (fun z => absurd z (by omega))
  | succ m ih =>
    intro k a hk h
    rw [bb_ab, nI_1 k] at h
    exact pk_le 3 k (fun z => absurd z (by omega)) (fun _ => ⟨pk_in k 6 (by omega), nm_e (nm_r (nI_1 k) (ih (k + 1) _ (by omega) h))⟩)
def bb_up : Nat → Int64 → Int32 → Int64
  | 0, u, _ => u
  | m + 1, u, x => bb_up m (u ||| ((u &&& (bb_z x.toNatClampNeg)) <<< (((1 : Int32) <<< (x &&& 31)).toInt64 &&& 63))) (x + 1)
theorem bb_minimal_5 {post : Int64 → Prop} {d w : Int32} {al s : Int64} {a1 a2 a4 a5 : Nat → Int64} : ∀ (m k : Nat) (u : Int64), k + m = 3 → post (s &&& ((bb_ab (bb_up m u (nI k)) 3 0 (nI 0)) ^^^ (-1))) → wX_minimal_5 post s 3 d w al a1 a2 bb_z a4 a5 (m + 1) u (nI k) := by
  intro m
  induction m with
  | zero =>
    intro k u hk h
    exact pk_le 3 k (fun _ => ⟨4, bb_minimal_43 3 0 0 rfl h⟩) (fun z => absurd z (by omega))
  | succ m ih =>
    intro k u hk h
    rw [bb_up, nI_1 k] at h
    exact pk_le 3 k (fun z => absurd z (by omega)) (fun _ => ⟨pk_in k 6 (by omega), nm_e (nm_r (nI_1 k) (ih (k + 1) _ (by omega) h))⟩)
def bb_min (s : Int64) : Int64 := s &&& ((bb_ab (bb_up 3 s (nI 0)) 3 0 (nI 0)) ^^^ (-1))
theorem bb_minimal_w {post : Int64 → Prop} {d w : Int32} {al s : Int64} {a1 a2 a4 a5 : Nat → Int64} (h : post (bb_min s)) : wpX_minimal post (3, d, w, al, a1, a2, bb_z, a4, a5) s := by
  unfold wpX_minimal
  dsimp only
  exact ⟨4, bb_minimal_5 3 0 s rfl h⟩

/-! the three changes, at depth 1, of belief 0 -/
def bb_upX (f o : Int64) : Nat → Int64 → Int32 → Int64
  | 0, n, _ => n
  | m + 1, n, w => if bb_has o w = 0 then bb_upX f o m n (w + 1) else bb_upX f o m (n ||| bb_shift (bb_min (bb_shift f w)) w) (w + 1)
theorem bb_update_38 {post : Int32 → St2 → Prop} {d : Int32} {al f o : Int64} {a1 a2 a4 a5 : Nat → Int64} : ∀ (m k : Nat) (n : Int64), k + m = 8 → post (bb_ones (bb_upX f o m n (nI k))) (3, d, 8, al, vp_updL a1 0 (bb_upX f o m n (nI k)), a2, bb_z, a4, a5) → wX_update_38 post 0 f o 3 d 8 al a1 a2 bb_z a4 a5 (m + 1) n (nI k) := by
  intro m
  induction m with
  | zero =>
    intro k n hk h
    exact pk_le 8 k (fun _ => bb_become_w h) (fun z => absurd z (by omega))
  | succ m ih =>
    intro k n hk h
    have e : nI k + 1 = nI (k + 1) := nI_1 k
    have hn := fun n => ih (k + 1) n (by omega)
    rw [bb_upX, e] at h
    refine pk_le 8 k (fun z => absurd z (by omega)) (fun _ => bb_has_w ?_)
    refine bb_if (P := fun r => post (bb_ones r) (3, d, 8, al, vp_updL a1 0 r, a2, bb_z, a4, a5)) h (fun _ h => nm_r e (hn _ h)) (fun _ h => ?_)
    refine bb_shifted_w (bb_minimal_w (bb_shifted_w ?_))
    exact nm_e (nm_r e (hn _ h))
def bb_updX (o f : Int64) : Int64 := bb_upX f o 8 0 (nI 0)
theorem bb_update_w {post : Int32 → St2 → Prop} {al : Int64} {a1 a2 a4 a5 : Nat → Int64} (h : post (bb_ones (bb_updX (a1 0) (a2 0))) (3, 0, 8, al, vp_updL a1 0 (bb_updX (a1 0) (a2 0)), a2, bb_z, a4, a5)) : wpX_update post (3, 1, 8, al, a1, a2, bb_z, a4, a5) 0 := by
  unfold wpX_update
  dsimp only
  refine bb_isB0 (br_f (by decide) (br_f (by decide) (bb_pop_w ?_)))
  dsimp only
  rw [sb_cl0]
  exact ⟨pk_in 0 3 (by omega), nm_e ⟨9, bb_update_38 8 0 0 rfl h⟩⟩

theorem bb_revise_w {post : Int32 → St2 → Prop} {w : Int32} {al : Int64} {a1 a2 a4 a5 : Nat → Int64} (h : post (bb_ones (bb_nearX (a1 0) (a2 0))) (3, 0, w, al, vp_updL a1 0 (bb_nearX (a1 0) (a2 0)), a2, bb_z, a4, a5)) : wpX_revise post (3, 1, w, al, a1, a2, bb_z, a4, a5) 0 := by
  unfold wpX_revise
  dsimp only
  refine bb_isB0 (br_f (by decide) (br_f (by decide) (bb_pop_w ?_)))
  dsimp only
  rw [sb_cl0]
  exact ⟨pk_in 0 3 (by omega), bb_nearestX_w (bb_become_w h)⟩

def bb_joined (o f : Int64) : Int64 := if (o &&& (f ^^^ (-1))) = 0 then bb_nearX o (255 &&& (f ^^^ (-1))) else 0
def bb_giveX (o f : Int64) : Int64 := o ||| bb_joined o f
theorem bb_giveUp_w {post : Int32 → St2 → Prop} {w : Int32} {a1 a2 a4 a5 : Nat → Int64} (h : post (bb_ones (bb_giveX (a1 0) (a2 0))) (3, 0, w, 255, vp_updL a1 0 (bb_giveX (a1 0) (a2 0)), a2, bb_z, a4, a5)) : wpX_giveUp post (3, 1, w, 255, a1, a2, bb_z, a4, a5) 0 := by
  unfold wpX_giveUp
  dsimp only
  refine bb_isB0 (br_f (by decide) (br_f (by decide) (bb_pop_w ?_)))
  dsimp only
  rw [sb_cl0]
  refine ⟨pk_in 0 3 (by omega), nm_e ?_⟩
  exact bb_if (P := fun r => post (bb_ones (a1 0 ||| r)) (3, 0, w, 255, vp_updL a1 0 (a1 0 ||| r), a2, bb_z, a4, a5)) h (fun _ h => bb_nearestX_w (bb_become_w h)) (fun _ h => bb_become_w h)
end
section
/-! the plain law: twenty sets of worlds can arise; what the component makes of each pair is what the law awaits -/
def bb_T : List Nat := [0, 60, 90, 102, 136, 160, 170, 175, 187, 192, 204, 207, 221, 238, 240, 243, 245, 250, 252, 255]
theorem bb_get {p : Nat → Nat → Bool} (h : bb_T.all (fun b => bb_T.all (fun f => p b f)) = true) {b f : Nat} (hb : b ∈ bb_T) (hf : f ∈ bb_T) : p b f = true :=
  List.all_eq_true.mp (List.all_eq_true.mp h b hb) f hf
def bb_okb (R : Int64) (D : Int32) : Bool := decide (R = D.toInt64) && (decide (¬ D < 0) && decide (D ≤ 255))
theorem bb_ok {R : Int64} {D : Int32} (h : bb_okb R D = true) : ∃ r : Nat, r < 256 ∧ R = lN r ∧ D = nI r := by
  unfold bb_okb at h
  rw [Bool.and_eq_true, Bool.and_eq_true] at h
  obtain ⟨h1, h2, h3⟩ := h
  obtain ⟨r, hr, e⟩ := nI_of2 (M := 255) (n := 255) (by decide) (of_decide_eq_true h2) (of_decide_eq_true h3)
  exact ⟨r, by omega, by rw [of_decide_eq_true h1, e, nI_l (by omega)], e⟩
def bb_dueG (b f : Int32) : Int32 := if (b &&& f) = b then b ||| bb_nearL b (255 - f) else b
theorem bb_cE : bb_T.all (fun b => bb_T.all (fun f => decide (bb_ent (lN b) (lN f) = if (nI b &&& nI f) = nI b then 1 else 0))) = true := by decide +kernel
theorem bb_cR : bb_T.all (fun b => bb_T.all (fun f => bb_okb (bb_nearX (lN b) (lN f)) (bb_nearL (nI b) (nI f)))) = true := by decide +kernel
theorem bb_cG : bb_T.all (fun b => bb_T.all (fun f => bb_okb (bb_giveX (lN b) (lN f)) (bb_dueG (nI b) (nI f)))) = true := by decide +kernel
theorem bb_cU : bb_T.all (fun b => bb_T.all (fun f => bb_okb (bb_updX (lN b) (lN f)) (bb_updL (nI b) (nI f)))) = true := by decide +kernel
/-- the set that the law joins of atoms i, j by kind g -/
def bb_nat (i j g : Nat) : Nat := (bb_join (nI (1 + g)) (bb_latom (nI i)) (bb_latom (nI j))).toNatClampNeg
theorem bb_cT : ∀ i, i < 3 → ∀ j, j < 3 → ∀ g, g < 4 → bb_join (nI (1 + g)) (bb_latom (nI i)) (bb_latom (nI j)) = nI (bb_nat i j g) ∧ bb_conn (nI (1 + g)) (bb_at i) (bb_at j) = lN (bb_nat i j g) ∧ 255 &&& lN (bb_nat i j g) = lN (bb_nat i j g) ∧ 0 ≤ bb_ones (lN (bb_nat i j g)) ∧ bb_nat i j g ∈ bb_T := by decide +kernel
def bb_finb (R : Int64) (D : Int32) : Nat → Int32 → Int32 → Bool
  | 0, c, _ => decide (bb_ones R = c)
  | m + 1, c, x => decide (bb_hold R x = ((D >>> (x &&& 31)) &&& 1)) && bb_finb R D m (c + ((D >>> (x &&& 31)) &&& 1)) (x + 1)
theorem bb_c256 : ∀ r, r < 256 → bb_finb (lN r) (nI r) 8 0 (nI 0) = true := by decide +kernel
end
section
/-! the law's end, its three roads, its entry -/
theorem bb_317 {post : Int32 → St0 → Prop} {mc ms kc ks : Nat} {D n : Int32} {al : Int64} {a1 a2 a3 a4 a5 : Nat → Int64} (h1 : a1 1 = 255) (hp : post 1 ()) : ∀ (m k : Nat) (c : Int32), k + m = 8 → bb_finb (a1 0) D m c (nI k) = true → wL_lawOf_317 post mc ms D kc ks n 0 8 al a1 a2 a3 a4 a5 (m + 1) c (nI k) := by
  intro m
  induction m with
  | zero =>
    intro k c hk h
    refine pk_le 8 k (fun _ => bb_count0_w ?_) (fun z => absurd z (by omega))
    refine br_t (of_decide_eq_true h) (bb_count1_w ?_)
    rw [h1]
    refine br_t (by decide +kernel) ?_
    unfold wpX_depth
    dsimp only
    exact br_t rfl hp
  | succ m ih =>
    intro k c hk h
    rw [bb_finb, nI_1 k, Bool.and_eq_true] at h
    refine pk_le 8 k (fun z => absurd z (by omega)) (fun _ => nm_e (bb_holds_w (by omega) ?_))
    exact br_t (of_decide_eq_true h.1) (nm_r (nI_1 k) (ih (k + 1) _ (by omega) h.2))
theorem bb_tail {post : Int32 → St0 → Prop} {mc ms kc ks : Nat} {D n : Int32} {al R : Int64} {a1 a2 a3 a4 a5 : Nat → Int64} (h1 : a1 1 = 255) (hp : post 1 ()) (hk : bb_okb R D = true) : ∃ fu : Nat, wL_lawOf_317 post mc ms D kc ks n 0 8 al (vp_updL a1 0 R) a2 a3 a4 a5 fu 0 0 := by
  obtain ⟨r, hr, e1, e2⟩ := bb_ok hk
  refine ⟨9, bb_317 (bb_u1.trans h1) hp 8 0 0 rfl ?_⟩
  rw [bb_u0, e1, e2]
  exact bb_c256 r hr
theorem bb_195 {post : Int32 → St0 → Prop} (hp : post 1 ()) {mc ms kc ks : Nat} {x2 z : Int32} {b f : Nat} (hb : b ∈ bb_T) (hf : f ∈ bb_T) {a1 a2 a4 a5 : Nat → Int64} (h0 : a1 0 = lN b) (h1 : a1 1 = 255) (h2 : a2 0 = lN f) : wL_lawOf_195 post mc ms x2 (nI b) (nI f) z z kc ks 3 1 8 255 a1 a2 bb_z a4 a5 := by
  refine br_t rfl (br_c (fun m0 => bb_updated_w ?_) (fun m0 => br_c (fun m1 => ?_) (fun m1 => bb_nearestL_w ?_)))
  · refine br_t m0 (bb_update_w ?_)
    rw [h0, h2]
    exact bb_tail h1 hp (bb_get bb_cU hb hf)
  · have hG : bb_okb (bb_giveX (lN b) (lN f)) (bb_dueG (nI b) (nI f)) = true := bb_get bb_cG hb hf
    refine bb_if (P := fun r => bb_okb (bb_giveX (lN b) (lN f)) r = true) hG (fun _ h => bb_nearestL_w ?_) (fun _ h => ?_)
    · unfold wL_lawOf_257
      refine br_f m0 (br_t m1 (bb_giveUp_w ?_))
      rw [h0, h2]
      exact bb_tail h1 hp h
    · unfold wL_lawOf_257
      refine br_f m0 (br_t m1 (bb_giveUp_w ?_))
      rw [h0, h2]
      exact bb_tail h1 hp h
  · refine br_f m0 (br_f m1 (bb_revise_w ?_))
    rw [h0, h2]
    exact bb_tail h1 hp (bb_get bb_cR hb hf)
theorem bb_connect_g {post : Int32 → St2 → Prop} {g : Nat} {a1 a2 a3 a4 a5 : Nat → Int64} {x y : Int64} (h1 : 1 ≤ g) (h4 : g ≤ 4) (hx : a2 0 = x) (hy : a2 1 = y) (h : ∀ s : Nat → Int64, s 0 = bb_conn (nI g) x y → post 1 (3, 1, 8, 255, a1, s, a3, a4, a5)) : wpX_connect post (3, 2, 8, 255, a1, a2, a3, a4, a5) (nI g) :=
  bb_connect_w h1 h4 (h _ (by rw [bb_u0, hx, hy]))
theorem bb_expand_g {post : Int32 → St2 → Prop} {n w : Int32} {al : Int64} {a1 a2 a3 a4 a5 : Nat → Int64} (h : ∀ b : Nat → Int64, b 0 = a1 0 &&& a2 0 → b 1 = a1 1 → post (bb_ones (a1 0 &&& a2 0)) (n, 0, w, al, b, a2, a3, a4, a5)) : wpX_expand post (n, 1, w, al, a1, a2, a3, a4, a5) 0 :=
  bb_expand_w (h _ bb_u0 bb_u1)
theorem bb_lawOf {post : Int32 → St0 → Prop} (hp : post 1 ()) (p q x : Int32) : wpL_lawOf post 50 800 () p q x := by
  obtain ⟨i', hi, ei⟩ := pk_andE p (m := 3) 2 (by decide)
  obtain ⟨j', hj, ej⟩ := pk_andE (p >>> ((2 : Int32) &&& 31)) (m := 3) 2 (by decide)
  obtain ⟨g, hg, eg⟩ := pk_andE (p >>> ((4 : Int32) &&& 31)) (m := 3) 2 (by decide)
  obtain ⟨k', hk, ek⟩ := pk_andE q (m := 3) 2 (by decide)
  obtain ⟨l', hl, el⟩ := pk_andE (q >>> ((2 : Int32) &&& 31)) (m := 3) 2 (by decide)
  obtain ⟨h, hh, eh⟩ := pk_andE (q >>> ((4 : Int32) &&& 31)) (m := 3) 2 (by decide)
  have r3 : ∀ a : Nat, a < 2 ^ 2 → nI a - nI a / 3 * 3 = nI (a % 3) := fun a ha => pk_rem (d := 3) (by omega) (by omega) (by omega)
  have n1 : ∀ a : Nat, 1 + nI a = nI (1 + a) := fun a => nI_add 1 a
  unfold wpL_lawOf
  rw [ei, ej, eg, ek, el, eh]
  refine ⟨by decide, nm_r (r3 i' hi) ⟨by decide, nm_r (r3 j' hj) (nm_r (n1 g) ⟨by decide, nm_r (r3 k' hk) ⟨by decide, nm_r (r3 l' hl) (nm_r (n1 h) ⟨by omega, by omega, 5, 33, by omega, by omega, ?_⟩)⟩⟩)⟩⟩
  have hi3 : i' % 3 < 3 := Nat.mod_lt _ (by decide)
  have hj3 : j' % 3 < 3 := Nat.mod_lt _ (by decide)
  have hk3 : k' % 3 < 3 := Nat.mod_lt _ (by decide)
  have hl3 : l' % 3 < 3 := Nat.mod_lt _ (by decide)
  obtain ⟨t1, t2, t3, t4, t5⟩ := bb_cT _ hi3 _ hj3 g hg
  obtain ⟨u1, u2, u3, u4, u5⟩ := bb_cT _ hk3 _ hl3 h hh
  generalize i' % 3 = i at *
  generalize j' % 3 = j at *
  generalize k' % 3 = k at *
  generalize l' % 3 = l at *
  refine bb_init_w (fun a1 ha0 ha1 => ?_)
  refine bb_atom_w (d := 0) (by omega) hi3 ?_
  refine bb_atom_w (d := 1) (by omega) hj3 ?_
  refine bb_connect_g (x := bb_at i) (y := bb_at j) (by omega) (by omega) rfl rfl (fun s1 hs1 => ?_)
  refine br_t rfl ?_
  refine bb_expand_g (fun b1 hb0 hb1 => ?_)
  rw [ha0, hs1, t2, t3] at hb0
  rw [ha1] at hb1
  rw [ha0, hs1, t2, t3]
  refine br_t t4 ?_
  refine bb_atom_w (d := 0) (by omega) hk3 ?_
  refine bb_atom_w (d := 1) (by omega) hl3 ?_
  refine bb_connect_g (x := bb_at k) (y := bb_at l) (by omega) (by omega) rfl rfl (fun s2 hs2 => ?_)
  refine br_t rfl ?_
  rw [u2] at hs2
  refine bb_latom_w (bb_latom_w (bb_join_w (bb_latom_w (bb_latom_w (bb_join_w (bb_entails_w ?_))))))
  have hE : bb_ent (lN (bb_nat i j g)) (lN (bb_nat k l h)) = if (nI (bb_nat i j g) &&& nI (bb_nat k l h)) = nI (bb_nat i j g) then 1 else 0 := of_decide_eq_true (bb_get bb_cE t5 u5)
  rw [t1, u1, hb0, hs2, hE]
  refine br_c (fun c => ?_) (fun c => ?_)
  · rw [if_pos c]
    exact bb_195 hp t5 u5 hb0 hb1 hs2
  · rw [if_neg c]
    exact bb_195 hp t5 u5 hb0 hb1 hs2
theorem bb_cell {post : Int32 → Prop} {L : Nat} {xs : Nat → Int32} (hL : L ≤ 3) {k : Nat} (hk : k < 3) (h : ∀ r, post r) : wpL_cellAt post L xs () (nI k) :=
  pk_le L k (fun _ => h _) (fun z => ⟨pk_in k L z, h _⟩)
theorem i_vc (xs : Nat → Int32) (L : Nat) (hL : L ≤ 3) : wpL_law (fun r => r = 1) L xs := by
  unfold wpL_law
  refine bb_cell (k := 0) hL (by omega) (fun r1 => bb_cell (k := 1) hL (by omega) (fun r2 => bb_cell (k := 2) hL (by omega) (fun r3 => ⟨50, 800, by omega, by omega, ?_⟩)))
  exact bb_lawOf rfl r1 r2 r3
end
