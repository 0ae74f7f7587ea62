/-! ===== the state of both objects, and the world that holds it ===== -/
set_option maxRecDepth 100000
abbrev MT : Type := (Nat → Int32) × (Nat → Int32) × (Nat → Int32) × (Int32) × (Nat → Int32) × (Nat → Int32) × (Int32) × (Nat → Int32) × (Nat → Int32) × (Nat → Int32) × (Nat → Int64) × (Int32)
def M_s (z : MT) : Nat → Int32 := z.1
def M_s_ (z : MT) (v : Nat → Int32) : MT := (v, z.2.1, z.2.2.1, z.2.2.2.1, z.2.2.2.2.1, z.2.2.2.2.2.1, z.2.2.2.2.2.2.1, z.2.2.2.2.2.2.2.1, z.2.2.2.2.2.2.2.2.1, z.2.2.2.2.2.2.2.2.2.1, z.2.2.2.2.2.2.2.2.2.2.1, z.2.2.2.2.2.2.2.2.2.2.2)
def M_image (z : MT) : Nat → Int32 := z.2.1
def M_image_ (z : MT) (v : Nat → Int32) : MT := (z.1, v, z.2.2.1, z.2.2.2.1, z.2.2.2.2.1, z.2.2.2.2.2.1, z.2.2.2.2.2.2.1, z.2.2.2.2.2.2.2.1, z.2.2.2.2.2.2.2.2.1, z.2.2.2.2.2.2.2.2.2.1, z.2.2.2.2.2.2.2.2.2.2.1, z.2.2.2.2.2.2.2.2.2.2.2)
def M_frame (z : MT) : Nat → Int32 := z.2.2.1
def M_frame_ (z : MT) (v : Nat → Int32) : MT := (z.1, z.2.1, v, z.2.2.2.1, z.2.2.2.2.1, z.2.2.2.2.2.1, z.2.2.2.2.2.2.1, z.2.2.2.2.2.2.2.1, z.2.2.2.2.2.2.2.2.1, z.2.2.2.2.2.2.2.2.2.1, z.2.2.2.2.2.2.2.2.2.2.1, z.2.2.2.2.2.2.2.2.2.2.2)
def M_hasImage (z : MT) : Int32 := z.2.2.2.1
def M_hasImage_ (z : MT) (v : Int32) : MT := (z.1, z.2.1, z.2.2.1, v, z.2.2.2.2.1, z.2.2.2.2.2.1, z.2.2.2.2.2.2.1, z.2.2.2.2.2.2.2.1, z.2.2.2.2.2.2.2.2.1, z.2.2.2.2.2.2.2.2.2.1, z.2.2.2.2.2.2.2.2.2.2.1, z.2.2.2.2.2.2.2.2.2.2.2)
def M_holds (z : MT) : Nat → Int32 := z.2.2.2.2.1
def M_holds_ (z : MT) (v : Nat → Int32) : MT := (z.1, z.2.1, z.2.2.1, z.2.2.2.1, v, z.2.2.2.2.2.1, z.2.2.2.2.2.2.1, z.2.2.2.2.2.2.2.1, z.2.2.2.2.2.2.2.2.1, z.2.2.2.2.2.2.2.2.2.1, z.2.2.2.2.2.2.2.2.2.2.1, z.2.2.2.2.2.2.2.2.2.2.2)
def M_newest (z : MT) : Nat → Int32 := z.2.2.2.2.2.1
def M_newest_ (z : MT) (v : Nat → Int32) : MT := (z.1, z.2.1, z.2.2.1, z.2.2.2.1, z.2.2.2.2.1, v, z.2.2.2.2.2.2.1, z.2.2.2.2.2.2.2.1, z.2.2.2.2.2.2.2.2.1, z.2.2.2.2.2.2.2.2.2.1, z.2.2.2.2.2.2.2.2.2.2.1, z.2.2.2.2.2.2.2.2.2.2.2)
def M_owns (z : MT) : Int32 := z.2.2.2.2.2.2.1
def M_owns_ (z : MT) (v : Int32) : MT := (z.1, z.2.1, z.2.2.1, z.2.2.2.1, z.2.2.2.2.1, z.2.2.2.2.2.1, v, z.2.2.2.2.2.2.2.1, z.2.2.2.2.2.2.2.2.1, z.2.2.2.2.2.2.2.2.2.1, z.2.2.2.2.2.2.2.2.2.2.1, z.2.2.2.2.2.2.2.2.2.2.2)
def M_holders (z : MT) : Nat → Int32 := z.2.2.2.2.2.2.2.1
def M_holders_ (z : MT) (v : Nat → Int32) : MT := (z.1, z.2.1, z.2.2.1, z.2.2.2.1, z.2.2.2.2.1, z.2.2.2.2.2.1, z.2.2.2.2.2.2.1, v, z.2.2.2.2.2.2.2.2.1, z.2.2.2.2.2.2.2.2.2.1, z.2.2.2.2.2.2.2.2.2.2.1, z.2.2.2.2.2.2.2.2.2.2.2)
def M_sorts (z : MT) : Nat → Int32 := z.2.2.2.2.2.2.2.2.1
def M_sorts_ (z : MT) (v : Nat → Int32) : MT := (z.1, z.2.1, z.2.2.1, z.2.2.2.1, z.2.2.2.2.1, z.2.2.2.2.2.1, z.2.2.2.2.2.2.1, z.2.2.2.2.2.2.2.1, v, z.2.2.2.2.2.2.2.2.2.1, z.2.2.2.2.2.2.2.2.2.2.1, z.2.2.2.2.2.2.2.2.2.2.2)
def M_msizes (z : MT) : Nat → Int32 := z.2.2.2.2.2.2.2.2.2.1
def M_msizes_ (z : MT) (v : Nat → Int32) : MT := (z.1, z.2.1, z.2.2.1, z.2.2.2.1, z.2.2.2.2.1, z.2.2.2.2.2.1, z.2.2.2.2.2.2.1, z.2.2.2.2.2.2.2.1, z.2.2.2.2.2.2.2.2.1, v, z.2.2.2.2.2.2.2.2.2.2.1, z.2.2.2.2.2.2.2.2.2.2.2)
def M_items (z : MT) : Nat → Int64 := z.2.2.2.2.2.2.2.2.2.2.1
def M_items_ (z : MT) (v : Nat → Int64) : MT := (z.1, z.2.1, z.2.2.1, z.2.2.2.1, z.2.2.2.2.1, z.2.2.2.2.2.1, z.2.2.2.2.2.2.1, z.2.2.2.2.2.2.2.1, z.2.2.2.2.2.2.2.2.1, z.2.2.2.2.2.2.2.2.2.1, v, z.2.2.2.2.2.2.2.2.2.2.2)
def M_lot (z : MT) : Int32 := z.2.2.2.2.2.2.2.2.2.2.2
def M_lot_ (z : MT) (v : Int32) : MT := (z.1, z.2.1, z.2.2.1, z.2.2.2.1, z.2.2.2.2.1, z.2.2.2.2.2.1, z.2.2.2.2.2.2.1, z.2.2.2.2.2.2.2.1, z.2.2.2.2.2.2.2.2.1, z.2.2.2.2.2.2.2.2.2.1, z.2.2.2.2.2.2.2.2.2.2.1, v)
abbrev CT : Type := (Nat → Option Nat) × (Nat → Nat → Int32) × (Nat → Nat → Int32) × (Nat → Int32) × (Nat → Option Nat) × (Nat → Option Nat) × (Nat → Int32) × (Nat → Int32) × (Nat → Int32) × (Int32) × (Int32)
def C_things (z : CT) : Nat → Option Nat := z.1
def C_things_ (z : CT) (v : Nat → Option Nat) : CT := (v, z.2.1, z.2.2.1, z.2.2.2.1, z.2.2.2.2.1, z.2.2.2.2.2.1, z.2.2.2.2.2.2.1, z.2.2.2.2.2.2.2.1, z.2.2.2.2.2.2.2.2.1, z.2.2.2.2.2.2.2.2.2.1, z.2.2.2.2.2.2.2.2.2.2)
def C_slots (z : CT) : Nat → Nat → Int32 := z.2.1
def C_slots_ (z : CT) (v : Nat → Nat → Int32) : CT := (z.1, v, z.2.2.1, z.2.2.2.1, z.2.2.2.2.1, z.2.2.2.2.2.1, z.2.2.2.2.2.2.1, z.2.2.2.2.2.2.2.1, z.2.2.2.2.2.2.2.2.1, z.2.2.2.2.2.2.2.2.2.1, z.2.2.2.2.2.2.2.2.2.2)
def C_dead (z : CT) : Nat → Nat → Int32 := z.2.2.1
def C_dead_ (z : CT) (v : Nat → Nat → Int32) : CT := (z.1, z.2.1, v, z.2.2.2.1, z.2.2.2.2.1, z.2.2.2.2.2.1, z.2.2.2.2.2.2.1, z.2.2.2.2.2.2.2.1, z.2.2.2.2.2.2.2.2.1, z.2.2.2.2.2.2.2.2.2.1, z.2.2.2.2.2.2.2.2.2.2)
def C_deadMany (z : CT) : Nat → Int32 := z.2.2.2.1
def C_deadMany_ (z : CT) (v : Nat → Int32) : CT := (z.1, z.2.1, z.2.2.1, v, z.2.2.2.2.1, z.2.2.2.2.2.1, z.2.2.2.2.2.2.1, z.2.2.2.2.2.2.2.1, z.2.2.2.2.2.2.2.2.1, z.2.2.2.2.2.2.2.2.2.1, z.2.2.2.2.2.2.2.2.2.2)
def C_prevs (z : CT) : Nat → Option Nat := z.2.2.2.2.1
def C_prevs_ (z : CT) (v : Nat → Option Nat) : CT := (z.1, z.2.1, z.2.2.1, z.2.2.2.1, v, z.2.2.2.2.2.1, z.2.2.2.2.2.2.1, z.2.2.2.2.2.2.2.1, z.2.2.2.2.2.2.2.2.1, z.2.2.2.2.2.2.2.2.2.1, z.2.2.2.2.2.2.2.2.2.2)
def C_owners (z : CT) : Nat → Option Nat := z.2.2.2.2.2.1
def C_owners_ (z : CT) (v : Nat → Option Nat) : CT := (z.1, z.2.1, z.2.2.1, z.2.2.2.1, z.2.2.2.2.1, v, z.2.2.2.2.2.2.1, z.2.2.2.2.2.2.2.1, z.2.2.2.2.2.2.2.2.1, z.2.2.2.2.2.2.2.2.2.1, z.2.2.2.2.2.2.2.2.2.2)
def C_tags (z : CT) : Nat → Int32 := z.2.2.2.2.2.2.1
def C_tags_ (z : CT) (v : Nat → Int32) : CT := (z.1, z.2.1, z.2.2.1, z.2.2.2.1, z.2.2.2.2.1, z.2.2.2.2.2.1, v, z.2.2.2.2.2.2.2.1, z.2.2.2.2.2.2.2.2.1, z.2.2.2.2.2.2.2.2.2.1, z.2.2.2.2.2.2.2.2.2.2)
def C_sizes (z : CT) : Nat → Int32 := z.2.2.2.2.2.2.2.1
def C_sizes_ (z : CT) (v : Nat → Int32) : CT := (z.1, z.2.1, z.2.2.1, z.2.2.2.1, z.2.2.2.2.1, z.2.2.2.2.2.1, z.2.2.2.2.2.2.1, v, z.2.2.2.2.2.2.2.2.1, z.2.2.2.2.2.2.2.2.2.1, z.2.2.2.2.2.2.2.2.2.2)
def C_births (z : CT) : Nat → Int32 := z.2.2.2.2.2.2.2.2.1
def C_births_ (z : CT) (v : Nat → Int32) : CT := (z.1, z.2.1, z.2.2.1, z.2.2.2.1, z.2.2.2.2.1, z.2.2.2.2.2.1, z.2.2.2.2.2.2.1, z.2.2.2.2.2.2.2.1, v, z.2.2.2.2.2.2.2.2.2.1, z.2.2.2.2.2.2.2.2.2.2)
def C_time (z : CT) : Int32 := z.2.2.2.2.2.2.2.2.2.1
def C_time_ (z : CT) (v : Int32) : CT := (z.1, z.2.1, z.2.2.1, z.2.2.2.1, z.2.2.2.2.1, z.2.2.2.2.2.1, z.2.2.2.2.2.2.1, z.2.2.2.2.2.2.2.1, z.2.2.2.2.2.2.2.2.1, v, z.2.2.2.2.2.2.2.2.2.2)
def C_freed (z : CT) : Int32 := z.2.2.2.2.2.2.2.2.2.2
def C_freed_ (z : CT) (v : Int32) : CT := (z.1, z.2.1, z.2.2.1, z.2.2.2.1, z.2.2.2.2.1, z.2.2.2.2.2.1, z.2.2.2.2.2.2.1, z.2.2.2.2.2.2.2.1, z.2.2.2.2.2.2.2.2.1, z.2.2.2.2.2.2.2.2.2.1, v)
abbrev RT : Type := (Nat) × (Int32) × (Nat) × (Nat) × (Int32) × (Int32) × (Option Nat) × (Option Nat) × (Int32) × (Nat → Int32) × (Nat → Int32)
def R_ci (z : RT) : Nat := z.1
def R_ci_ (z : RT) (v : Nat) : RT := (v, z.2.1, z.2.2.1, z.2.2.2.1, z.2.2.2.2.1, z.2.2.2.2.2.1, z.2.2.2.2.2.2.1, z.2.2.2.2.2.2.2.1, z.2.2.2.2.2.2.2.2.1, z.2.2.2.2.2.2.2.2.2.1, z.2.2.2.2.2.2.2.2.2.2)
def R_made (z : RT) : Int32 := z.2.1
def R_made_ (z : RT) (v : Int32) : RT := (z.1, v, z.2.2.1, z.2.2.2.1, z.2.2.2.2.1, z.2.2.2.2.2.1, z.2.2.2.2.2.2.1, z.2.2.2.2.2.2.2.1, z.2.2.2.2.2.2.2.2.1, z.2.2.2.2.2.2.2.2.2.1, z.2.2.2.2.2.2.2.2.2.2)
def R_sa (z : RT) : Nat := z.2.2.1
def R_sa_ (z : RT) (v : Nat) : RT := (z.1, z.2.1, v, z.2.2.2.1, z.2.2.2.2.1, z.2.2.2.2.2.1, z.2.2.2.2.2.2.1, z.2.2.2.2.2.2.2.1, z.2.2.2.2.2.2.2.2.1, z.2.2.2.2.2.2.2.2.2.1, z.2.2.2.2.2.2.2.2.2.2)
def R_da (z : RT) : Nat := z.2.2.2.1
def R_da_ (z : RT) (v : Nat) : RT := (z.1, z.2.1, z.2.2.1, v, z.2.2.2.2.1, z.2.2.2.2.2.1, z.2.2.2.2.2.2.1, z.2.2.2.2.2.2.2.1, z.2.2.2.2.2.2.2.2.1, z.2.2.2.2.2.2.2.2.2.1, z.2.2.2.2.2.2.2.2.2.2)
def R_deadMany (z : RT) : Int32 := z.2.2.2.2.1
def R_deadMany_ (z : RT) (v : Int32) : RT := (z.1, z.2.1, z.2.2.1, z.2.2.2.1, v, z.2.2.2.2.2.1, z.2.2.2.2.2.2.1, z.2.2.2.2.2.2.2.1, z.2.2.2.2.2.2.2.2.1, z.2.2.2.2.2.2.2.2.2.1, z.2.2.2.2.2.2.2.2.2.2)
def R_number (z : RT) : Int32 := z.2.2.2.2.2.1
def R_number_ (z : RT) (v : Int32) : RT := (z.1, z.2.1, z.2.2.1, z.2.2.2.1, z.2.2.2.2.1, v, z.2.2.2.2.2.2.1, z.2.2.2.2.2.2.2.1, z.2.2.2.2.2.2.2.2.1, z.2.2.2.2.2.2.2.2.2.1, z.2.2.2.2.2.2.2.2.2.2)
def R_prev (z : RT) : Option Nat := z.2.2.2.2.2.2.1
def R_prev_ (z : RT) (v : Option Nat) : RT := (z.1, z.2.1, z.2.2.1, z.2.2.2.1, z.2.2.2.2.1, z.2.2.2.2.2.1, v, z.2.2.2.2.2.2.2.1, z.2.2.2.2.2.2.2.2.1, z.2.2.2.2.2.2.2.2.2.1, z.2.2.2.2.2.2.2.2.2.2)
def R_owner (z : RT) : Option Nat := z.2.2.2.2.2.2.2.1
def R_owner_ (z : RT) (v : Option Nat) : RT := (z.1, z.2.1, z.2.2.1, z.2.2.2.1, z.2.2.2.2.1, z.2.2.2.2.2.1, z.2.2.2.2.2.2.1, v, z.2.2.2.2.2.2.2.2.1, z.2.2.2.2.2.2.2.2.2.1, z.2.2.2.2.2.2.2.2.2.2)
def R_qt (z : RT) : Int32 := z.2.2.2.2.2.2.2.2.1
def R_qt_ (z : RT) (v : Int32) : RT := (z.1, z.2.1, z.2.2.1, z.2.2.2.1, z.2.2.2.2.1, z.2.2.2.2.2.1, z.2.2.2.2.2.2.1, z.2.2.2.2.2.2.2.1, v, z.2.2.2.2.2.2.2.2.2.1, z.2.2.2.2.2.2.2.2.2.2)
def R_slots (z : RT) : Nat → Int32 := z.2.2.2.2.2.2.2.2.2.1
def R_slots_ (z : RT) (v : Nat → Int32) : RT := (z.1, z.2.1, z.2.2.1, z.2.2.2.1, z.2.2.2.2.1, z.2.2.2.2.2.1, z.2.2.2.2.2.2.1, z.2.2.2.2.2.2.2.1, z.2.2.2.2.2.2.2.2.1, v, z.2.2.2.2.2.2.2.2.2.2)
def R_dead (z : RT) : Nat → Int32 := z.2.2.2.2.2.2.2.2.2.2
def R_dead_ (z : RT) (v : Nat → Int32) : RT := (z.1, z.2.1, z.2.2.1, z.2.2.2.1, z.2.2.2.2.1, z.2.2.2.2.2.1, z.2.2.2.2.2.2.1, z.2.2.2.2.2.2.2.1, z.2.2.2.2.2.2.2.2.1, z.2.2.2.2.2.2.2.2.2.1, v)
abbrev XT : Type := (Nat → Int32) × (Nat → Int32) × (Int32) × (Int32) × (Nat → Option Nat) × (Nat → Int32) × (Nat → Option Nat) × (Nat → Option Nat) × (Int32) × (CT) × (CT) × (Nat → Option RT) × (Nat → Option Int32) × (Nat → Option (Nat × ((Nat → Int32) ⊕ (Nat → Int64))))
def X_sizes (z : XT) : Nat → Int32 := z.1
def X_sizes_ (z : XT) (v : Nat → Int32) : XT := (v, z.2.1, z.2.2.1, z.2.2.2.1, z.2.2.2.2.1, z.2.2.2.2.2.1, z.2.2.2.2.2.2.1, z.2.2.2.2.2.2.2.1, z.2.2.2.2.2.2.2.2.1, z.2.2.2.2.2.2.2.2.2.1, z.2.2.2.2.2.2.2.2.2.2.1, z.2.2.2.2.2.2.2.2.2.2.2.1, z.2.2.2.2.2.2.2.2.2.2.2.2.1, z.2.2.2.2.2.2.2.2.2.2.2.2.2)
def X_births (z : XT) : Nat → Int32 := z.2.1
def X_births_ (z : XT) (v : Nat → Int32) : XT := (z.1, v, z.2.2.1, z.2.2.2.1, z.2.2.2.2.1, z.2.2.2.2.2.1, z.2.2.2.2.2.2.1, z.2.2.2.2.2.2.2.1, z.2.2.2.2.2.2.2.2.1, z.2.2.2.2.2.2.2.2.2.1, z.2.2.2.2.2.2.2.2.2.2.1, z.2.2.2.2.2.2.2.2.2.2.2.1, z.2.2.2.2.2.2.2.2.2.2.2.2.1, z.2.2.2.2.2.2.2.2.2.2.2.2.2)
def X_time (z : XT) : Int32 := z.2.2.1
def X_time_ (z : XT) (v : Int32) : XT := (z.1, z.2.1, v, z.2.2.2.1, z.2.2.2.2.1, z.2.2.2.2.2.1, z.2.2.2.2.2.2.1, z.2.2.2.2.2.2.2.1, z.2.2.2.2.2.2.2.2.1, z.2.2.2.2.2.2.2.2.2.1, z.2.2.2.2.2.2.2.2.2.2.1, z.2.2.2.2.2.2.2.2.2.2.2.1, z.2.2.2.2.2.2.2.2.2.2.2.2.1, z.2.2.2.2.2.2.2.2.2.2.2.2.2)
def X_freed (z : XT) : Int32 := z.2.2.2.1
def X_freed_ (z : XT) (v : Int32) : XT := (z.1, z.2.1, z.2.2.1, v, z.2.2.2.2.1, z.2.2.2.2.2.1, z.2.2.2.2.2.2.1, z.2.2.2.2.2.2.2.1, z.2.2.2.2.2.2.2.2.1, z.2.2.2.2.2.2.2.2.2.1, z.2.2.2.2.2.2.2.2.2.2.1, z.2.2.2.2.2.2.2.2.2.2.2.1, z.2.2.2.2.2.2.2.2.2.2.2.2.1, z.2.2.2.2.2.2.2.2.2.2.2.2.2)
def X_things (z : XT) : Nat → Option Nat := z.2.2.2.2.1
def X_things_ (z : XT) (v : Nat → Option Nat) : XT := (z.1, z.2.1, z.2.2.1, z.2.2.2.1, v, z.2.2.2.2.2.1, z.2.2.2.2.2.2.1, z.2.2.2.2.2.2.2.1, z.2.2.2.2.2.2.2.2.1, z.2.2.2.2.2.2.2.2.2.1, z.2.2.2.2.2.2.2.2.2.2.1, z.2.2.2.2.2.2.2.2.2.2.2.1, z.2.2.2.2.2.2.2.2.2.2.2.2.1, z.2.2.2.2.2.2.2.2.2.2.2.2.2)
def X_merged (z : XT) : Nat → Int32 := z.2.2.2.2.2.1
def X_merged_ (z : XT) (v : Nat → Int32) : XT := (z.1, z.2.1, z.2.2.1, z.2.2.2.1, z.2.2.2.2.1, v, z.2.2.2.2.2.2.1, z.2.2.2.2.2.2.2.1, z.2.2.2.2.2.2.2.2.1, z.2.2.2.2.2.2.2.2.2.1, z.2.2.2.2.2.2.2.2.2.2.1, z.2.2.2.2.2.2.2.2.2.2.2.1, z.2.2.2.2.2.2.2.2.2.2.2.2.1, z.2.2.2.2.2.2.2.2.2.2.2.2.2)
def X_own (z : XT) : Nat → Option Nat := z.2.2.2.2.2.2.1
def X_own_ (z : XT) (v : Nat → Option Nat) : XT := (z.1, z.2.1, z.2.2.1, z.2.2.2.1, z.2.2.2.2.1, z.2.2.2.2.2.1, v, z.2.2.2.2.2.2.2.1, z.2.2.2.2.2.2.2.2.1, z.2.2.2.2.2.2.2.2.2.1, z.2.2.2.2.2.2.2.2.2.2.1, z.2.2.2.2.2.2.2.2.2.2.2.1, z.2.2.2.2.2.2.2.2.2.2.2.2.1, z.2.2.2.2.2.2.2.2.2.2.2.2.2)
def X_rows (z : XT) : Nat → Option Nat := z.2.2.2.2.2.2.2.1
def X_rows_ (z : XT) (v : Nat → Option Nat) : XT := (z.1, z.2.1, z.2.2.1, z.2.2.2.1, z.2.2.2.2.1, z.2.2.2.2.2.1, z.2.2.2.2.2.2.1, v, z.2.2.2.2.2.2.2.2.1, z.2.2.2.2.2.2.2.2.2.1, z.2.2.2.2.2.2.2.2.2.2.1, z.2.2.2.2.2.2.2.2.2.2.2.1, z.2.2.2.2.2.2.2.2.2.2.2.2.1, z.2.2.2.2.2.2.2.2.2.2.2.2.2)
def X_hasImage (z : XT) : Int32 := z.2.2.2.2.2.2.2.2.1
def X_hasImage_ (z : XT) (v : Int32) : XT := (z.1, z.2.1, z.2.2.1, z.2.2.2.1, z.2.2.2.2.1, z.2.2.2.2.2.1, z.2.2.2.2.2.2.1, z.2.2.2.2.2.2.2.1, v, z.2.2.2.2.2.2.2.2.2.1, z.2.2.2.2.2.2.2.2.2.2.1, z.2.2.2.2.2.2.2.2.2.2.2.1, z.2.2.2.2.2.2.2.2.2.2.2.2.1, z.2.2.2.2.2.2.2.2.2.2.2.2.2)
def X_kept (z : XT) : CT := z.2.2.2.2.2.2.2.2.2.1
def X_kept_ (z : XT) (v : CT) : XT := (z.1, z.2.1, z.2.2.1, z.2.2.2.1, z.2.2.2.2.1, z.2.2.2.2.2.1, z.2.2.2.2.2.2.1, z.2.2.2.2.2.2.2.1, z.2.2.2.2.2.2.2.2.1, v, z.2.2.2.2.2.2.2.2.2.2.1, z.2.2.2.2.2.2.2.2.2.2.2.1, z.2.2.2.2.2.2.2.2.2.2.2.2.1, z.2.2.2.2.2.2.2.2.2.2.2.2.2)
def X_thought (z : XT) : CT := z.2.2.2.2.2.2.2.2.2.2.1
def X_thought_ (z : XT) (v : CT) : XT := (z.1, z.2.1, z.2.2.1, z.2.2.2.1, z.2.2.2.2.1, z.2.2.2.2.2.1, z.2.2.2.2.2.2.1, z.2.2.2.2.2.2.2.1, z.2.2.2.2.2.2.2.2.1, z.2.2.2.2.2.2.2.2.2.1, v, z.2.2.2.2.2.2.2.2.2.2.2.1, z.2.2.2.2.2.2.2.2.2.2.2.2.1, z.2.2.2.2.2.2.2.2.2.2.2.2.2)
def X_H (z : XT) : Nat → Option RT := z.2.2.2.2.2.2.2.2.2.2.2.1
def X_H_ (z : XT) (v : Nat → Option RT) : XT := (z.1, z.2.1, z.2.2.1, z.2.2.2.1, z.2.2.2.2.1, z.2.2.2.2.2.1, z.2.2.2.2.2.2.1, z.2.2.2.2.2.2.2.1, z.2.2.2.2.2.2.2.2.1, z.2.2.2.2.2.2.2.2.2.1, z.2.2.2.2.2.2.2.2.2.2.1, v, z.2.2.2.2.2.2.2.2.2.2.2.2.1, z.2.2.2.2.2.2.2.2.2.2.2.2.2)
def X_B (z : XT) : Nat → Option Int32 := z.2.2.2.2.2.2.2.2.2.2.2.2.1
def X_B_ (z : XT) (v : Nat → Option Int32) : XT := (z.1, z.2.1, z.2.2.1, z.2.2.2.1, z.2.2.2.2.1, z.2.2.2.2.2.1, z.2.2.2.2.2.2.1, z.2.2.2.2.2.2.2.1, z.2.2.2.2.2.2.2.2.1, z.2.2.2.2.2.2.2.2.2.1, z.2.2.2.2.2.2.2.2.2.2.1, z.2.2.2.2.2.2.2.2.2.2.2.1, v, z.2.2.2.2.2.2.2.2.2.2.2.2.2)
def X_W (z : XT) : Nat → Option (Nat × ((Nat → Int32) ⊕ (Nat → Int64))) := z.2.2.2.2.2.2.2.2.2.2.2.2.2
def X_W_ (z : XT) (v : Nat → Option (Nat × ((Nat → Int32) ⊕ (Nat → Int64)))) : XT := (z.1, z.2.1, z.2.2.1, z.2.2.2.1, z.2.2.2.2.1, z.2.2.2.2.2.1, z.2.2.2.2.2.2.1, z.2.2.2.2.2.2.2.1, z.2.2.2.2.2.2.2.2.1, z.2.2.2.2.2.2.2.2.2.1, z.2.2.2.2.2.2.2.2.2.2.1, z.2.2.2.2.2.2.2.2.2.2.2.1, z.2.2.2.2.2.2.2.2.2.2.2.2.1, v)
abbrev LT : Type := (Nat → Nat) × (Nat → Nat) × (Nat → Nat)
def L_ga (z : LT) : Nat → Nat := z.1
def L_ga_ (z : LT) (v : Nat → Nat) : LT := (v, z.2.1, z.2.2)
def L_hb (z : LT) : Nat → Nat := z.2.1
def L_hb_ (z : LT) (v : Nat → Nat) : LT := (z.1, v, z.2.2)
def L_ad (z : LT) : Nat → Nat := z.2.2
def L_ad_ (z : LT) (v : Nat → Nat) : LT := (z.1, z.2.1, v)
abbrev GT : Type := (LT) × (XT) × (MT) × (Nat × (Nat → Int32))
def G_L (z : GT) : LT := z.1
def G_L_ (z : GT) (v : LT) : GT := (v, z.2.1, z.2.2.1, z.2.2.2)
def G_X (z : GT) : XT := z.2.1
def G_X_ (z : GT) (v : XT) : GT := (z.1, v, z.2.2.1, z.2.2.2)
def G_M (z : GT) : MT := z.2.2.1
def G_M_ (z : GT) (v : MT) : GT := (z.1, z.2.1, v, z.2.2.2)
def G_scr (z : GT) : Nat × (Nat → Int32) := z.2.2.2
def G_scr_ (z : GT) (v : Nat × (Nat → Int32)) : GT := (z.1, z.2.1, z.2.2.1, v)
def g_ad (g : GT) (l : Nat) : Nat := L_ad (G_L g) l
def g_ga (g : GT) (a : Nat) : Nat := L_ga (G_L g) a
def g_hb (g : GT) (a : Nat) : Nat := L_hb (G_L g) a
def cInts (n : Nat) (f : Nat → Int32) : aCell := .inl (0, n, .inl f)
def cLongs (n : Nat) (f : Nat → Int64) : aCell := .inl (1, n, .inr (.inl f))
def cRefs (t n : Nat) (f : Nat → Option Nat) : aCell := .inl (t, n, .inr (.inr (.inr (.inr f))))
def mobj (ad : Nat → Nat) (m : MT) : List aV := [vI 0, vR (some (ad 401)), vR (some (ad 402)), vR (some (ad 403)), vI (M_hasImage m), vR (some (ad 404)), vR (some (ad 405)), vI (M_owns m), vR (some (ad 406)), vR (some (ad 407)), vR (some (ad 408)), vR (some (ad 409)), vI (M_lot m)]
def mcell (ad : Nat → Nat) (m : MT) (l : Nat) : Option aCell := match l with
  | 0 => some (.inr (3, mobj ad m))
  | 1 => some (cInts 554 (M_s m))
  | 2 => some (cInts 554 (M_image m))
  | 3 => some (cInts 554 (M_frame m))
  | 4 => some (cInts 96 (M_holds m))
  | 5 => some (cInts 20 (M_newest m))
  | 6 => some (cInts 96 (M_holders m))
  | 7 => some (cInts 4 (M_sorts m))
  | 8 => some (cInts 4 (M_msizes m))
  | 9 => some (cLongs 160 (M_items m))
  | _ => none
def xobj (ad : Nat → Nat) (x : XT) : List aV := [vR (some (ad 1)), vR (some (ad 2)), vI (X_time x), vI (X_freed x), vR (some (ad 3)), vR (some (ad 4)), vR (some (ad 5)), vR (some (ad 6)), vR (some (ad 100)), vR (some (ad 200)), vI (X_hasImage x)]
def xcell (ad : Nat → Nat) (x : XT) (l : Nat) : Option aCell := match l with
  | 0 => some (.inr (0, xobj ad x))
  | 1 => some (cInts 96 (X_sizes x))
  | 2 => some (cInts 96 (X_births x))
  | 3 => some (cRefs 2 20 (X_things x))
  | 4 => some (cInts 24 (X_merged x))
  | 5 => some (cRefs 3 20 (X_own x))
  | 6 => some (cRefs 4 4 (fun i => some (ad (7 + i))))
  | 7 => some (.inr (1, [vR (X_rows x 0)]))
  | 8 => some (.inr (1, [vR (X_rows x 1)]))
  | 9 => some (.inr (1, [vR (X_rows x 2)]))
  | 10 => some (.inr (1, [vR (X_rows x 3)]))
  | _ => none
def cobj (ad : Nat → Nat) (b : Nat) (c : CT) : List aV := [vR (some (ad (b + 1))), vR (some (ad (b + 2))), vR (some (ad (b + 3))), vR (some (ad (b + 4))), vR (some (ad (b + 5))), vR (some (ad (b + 6))), vR (some (ad (b + 7))), vR (some (ad (b + 8))), vR (some (ad (b + 9))), vI (C_time c), vI (C_freed c)]
def ccell (ad : Nat → Nat) (b : Nat) (c : CT) (l : Nat) : Option aCell := match l with
  | 0 => some (.inr (2, cobj ad b c))
  | 1 => some (cRefs 2 20 (C_things c))
  | 2 => some (cRefs 6 20 (fun i => some (ad (b + 10 + i))))
  | 3 => some (cRefs 6 20 (fun i => some (ad (b + 30 + i))))
  | 4 => some (cInts 20 (C_deadMany c))
  | 5 => some (cRefs 3 20 (C_prevs c))
  | 6 => some (cRefs 5 20 (C_owners c))
  | 7 => some (cInts 20 (C_tags c))
  | 8 => some (cInts 96 (C_sizes c))
  | 9 => some (cInts 96 (C_births c))
  | k + 10 => if k < 20 then some (cInts 12 (C_slots c k)) else if k < 40 then some (cInts 12 (C_dead c (k - 20))) else none
/-- the cell with a number -/
def scell (g : GT) (l : Nat) : Option aCell :=
  if l < 100 then xcell (g_ad g) (G_X g) l
  else if l < 200 then ccell (g_ad g) 100 (X_kept (G_X g)) (l - 100)
  else if l < 300 then ccell (g_ad g) 200 (X_thought (G_X g)) (l - 200)
  else if l < 400 then (if l = 300 then some (cInts (G_scr g).1 (G_scr g).2) else none)
  else mcell (g_ad g) (G_M g) (l - 400)
def stat (l : Nat) : Bool := (decide (l ≤ 10)) || (decide (100 ≤ l) && decide (l < 150)) || (decide (200 ≤ l) && decide (l < 250)) || decide (l = 300) || (decide (400 ≤ l) && decide (l < 410))
def hobj (r : RT) : List aV := [vI (R_made r), vR (some (R_sa r)), vR (some (R_da r)), vI (R_deadMany r), vI (R_number r), vR (R_prev r)] ++ (match R_ci r with
  | 4 => []
  | 5 => [vI (R_qt r)]
  | 6 => [vR (R_owner r)]
  | _ => [vR (R_owner r), vI (R_qt r)])
def rcell (y : Nat × ((Nat → Int32) ⊕ (Nat → Int64))) : aCell := match y.2 with
  | .inl f => cInts y.1 f
  | .inr f => cLongs y.1 f
/-- what lies at an address whose number is 1000 or more: a holder, its two rows, a bookmark, a sheet's row -/
def dcell (g : GT) (a : Nat) : Option aCell := match g_ga g a with
  | 1000 => (X_H (G_X g) a).map (fun r => .inr (R_ci r, hobj r))
  | 1001 => (X_H (G_X g) (g_hb g a)).bind (fun r => if R_sa r = a then some (cInts 12 (R_slots r)) else none)
  | 1002 => (X_H (G_X g) (g_hb g a)).bind (fun r => if R_da r = a then some (cInts 12 (R_dead r)) else none)
  | 1003 => (X_B (G_X g) a).map (fun m => .inr (8, [vI m]))
  | 1004 => (X_W (G_X g) a).map rcell
  | _ => none
def Wc (g : GT) : aW := fun a => if g_ga g a < 1000 then (if a = g_ad g (g_ga g a) then scell g (g_ga g a) else none) else dcell g a
/-- the numbers are right -/
def LO (g : GT) : Prop := (∀ l, stat l = true → g_ga g (g_ad g l) = l) ∧ (∀ a r, X_H (G_X g) a = some r → g_ga g a = 1000 ∧ g_ga g (R_sa r) = 1001 ∧ g_hb g (R_sa r) = a ∧ g_ga g (R_da r) = 1002 ∧ g_hb g (R_da r) = a ∧ 4 ≤ R_ci r ∧ R_ci r ≤ 7) ∧ (∀ a m, X_B (G_X g) a = some m → g_ga g a = 1003) ∧ (∀ a y, X_W (G_X g) a = some y → g_ga g a = 1004)
def V (g : GT) (w : aW) : Prop := LO g ∧ ∀ a c, Wc g a = some c → w a = some c
theorem V.sget {g : GT} {w : aW} (h : V g w) {l : Nat} {c : aCell} (hs : stat l = true) (hc : scell g l = some c) : w (g_ad g l) = some c := by
  refine h.2 _ _ ?_
  have e := h.1.1 l hs
  unfold Wc
  rw [e]
  have hl : l < 1000 := by
    simp only [stat, Bool.or_eq_true, Bool.and_eq_true, decide_eq_true_eq] at hs
    omega
  rw [if_pos hl, if_pos rfl]
  exact hc
theorem V.sset {g g' : GT} {w : aW} (h : V g w) (l : Nat) {c : aCell} (hs : stat l = true) (hL : G_L g' = G_L g) (hH : X_H (G_X g') = X_H (G_X g)) (hB : X_B (G_X g') = X_B (G_X g)) (hW : X_W (G_X g') = X_W (G_X g)) (ho : ∀ l', l' ≠ l → scell g' l' = scell g l') (hc : scell g' l = some c) : V g' (aup w (g_ad g l) c) := by
  have ga : g_ga g' = g_ga g := by unfold g_ga; rw [hL]
  have gb : g_hb g' = g_hb g := by unfold g_hb; rw [hL]
  have gd : g_ad g' = g_ad g := by unfold g_ad; rw [hL]
  refine ⟨⟨?_, ?_, ?_, ?_⟩, ?_⟩
  · rw [ga, gd]; exact h.1.1
  · rw [ga, gb, hH]; exact h.1.2.1
  · rw [ga, hB]; exact h.1.2.2.1
  · rw [ga, hW]; exact h.1.2.2.2
  · intro a d hd
    by_cases ha : a = g_ad g l
    · subst ha
      rw [aup_self]
      unfold Wc at hd
      rw [ga, gd, h.1.1 l hs] at hd
      have hl : l < 1000 := by
        simp only [stat, Bool.or_eq_true, Bool.and_eq_true, decide_eq_true_eq] at hs
        omega
      rw [if_pos hl, if_pos rfl, hc] at hd
      exact hd
    · rw [aup_ne ha]
      refine h.2 a d ?_
      rw [← hd]
      unfold Wc
      rw [ga, gd]
      by_cases hlt : g_ga g a < 1000
      · rw [if_pos hlt, if_pos hlt]
        by_cases he : a = g_ad g (g_ga g a)
        · rw [if_pos he, if_pos he]
          refine (ho _ ?_).symm
          intro e
          rw [e] at he
          exact ha he
        · rw [if_neg he, if_neg he]
      · rw [if_neg hlt, if_neg hlt]
        unfold dcell
        rw [ga, gb, hH, hB, hW]
theorem vpu {f : Nat → Int32} {k : Nat} {x : Int32} : upd f k x k = x := pk_us

def g_m (g : GT) : Nat := g_ad g 400
theorem V.mo {g : GT} {w : aW} (h : V g w) : w (g_m g) = some (.inr (3, mobj (g_ad g) (G_M g))) := h.sget (l := 400) (by decide) rfl
theorem V.mO {g : GT} {w : aW} (h : V g w) : isO w (g_m g) 3 := ⟨_, h.mo⟩
theorem V.mf_s {g : GT} {w : aW} (h : V g w) : gf w (g_m g) [3] 1 (vR (some (g_ad g 401))) := ⟨3, _, h.mo, List.mem_singleton.mpr rfl, rfl⟩
theorem V.mf_image {g : GT} {w : aW} (h : V g w) : gf w (g_m g) [3] 2 (vR (some (g_ad g 402))) := ⟨3, _, h.mo, List.mem_singleton.mpr rfl, rfl⟩
theorem V.mf_frame {g : GT} {w : aW} (h : V g w) : gf w (g_m g) [3] 3 (vR (some (g_ad g 403))) := ⟨3, _, h.mo, List.mem_singleton.mpr rfl, rfl⟩
theorem V.mf_holds {g : GT} {w : aW} (h : V g w) : gf w (g_m g) [3] 5 (vR (some (g_ad g 404))) := ⟨3, _, h.mo, List.mem_singleton.mpr rfl, rfl⟩
theorem V.mf_newest {g : GT} {w : aW} (h : V g w) : gf w (g_m g) [3] 6 (vR (some (g_ad g 405))) := ⟨3, _, h.mo, List.mem_singleton.mpr rfl, rfl⟩
theorem V.mf_holders {g : GT} {w : aW} (h : V g w) : gf w (g_m g) [3] 8 (vR (some (g_ad g 406))) := ⟨3, _, h.mo, List.mem_singleton.mpr rfl, rfl⟩
theorem V.mf_sorts {g : GT} {w : aW} (h : V g w) : gf w (g_m g) [3] 9 (vR (some (g_ad g 407))) := ⟨3, _, h.mo, List.mem_singleton.mpr rfl, rfl⟩
theorem V.mf_msizes {g : GT} {w : aW} (h : V g w) : gf w (g_m g) [3] 10 (vR (some (g_ad g 408))) := ⟨3, _, h.mo, List.mem_singleton.mpr rfl, rfl⟩
theorem V.mf_items {g : GT} {w : aW} (h : V g w) : gf w (g_m g) [3] 11 (vR (some (g_ad g 409))) := ⟨3, _, h.mo, List.mem_singleton.mpr rfl, rfl⟩
theorem V.mf_hasImage {g : GT} {w : aW} (h : V g w) : gf w (g_m g) [3] 4 (vI (M_hasImage (G_M g))) := ⟨3, _, h.mo, List.mem_singleton.mpr rfl, rfl⟩
theorem V.mf_owns {g : GT} {w : aW} (h : V g w) : gf w (g_m g) [3] 7 (vI (M_owns (G_M g))) := ⟨3, _, h.mo, List.mem_singleton.mpr rfl, rfl⟩
theorem V.mf_lot {g : GT} {w : aW} (h : V g w) : gf w (g_m g) [3] 12 (vI (M_lot (G_M g))) := ⟨3, _, h.mo, List.mem_singleton.mpr rfl, rfl⟩
theorem V.mg_s {g : GT} {w : aW} (h : V g w) {i : Int32} (hi : vp_in i 554) : gI w (g_ad g 401) i (M_s (G_M g) i.toNatClampNeg) := ⟨554, _, h.sget (l := 401) (by decide) rfl, hi, rfl⟩
theorem V.mg_image {g : GT} {w : aW} (h : V g w) {i : Int32} (hi : vp_in i 554) : gI w (g_ad g 402) i (M_image (G_M g) i.toNatClampNeg) := ⟨554, _, h.sget (l := 402) (by decide) rfl, hi, rfl⟩
theorem V.mg_frame {g : GT} {w : aW} (h : V g w) {i : Int32} (hi : vp_in i 554) : gI w (g_ad g 403) i (M_frame (G_M g) i.toNatClampNeg) := ⟨554, _, h.sget (l := 403) (by decide) rfl, hi, rfl⟩
theorem V.mg_holds {g : GT} {w : aW} (h : V g w) {i : Int32} (hi : vp_in i 96) : gI w (g_ad g 404) i (M_holds (G_M g) i.toNatClampNeg) := ⟨96, _, h.sget (l := 404) (by decide) rfl, hi, rfl⟩
theorem V.mg_newest {g : GT} {w : aW} (h : V g w) {i : Int32} (hi : vp_in i 20) : gI w (g_ad g 405) i (M_newest (G_M g) i.toNatClampNeg) := ⟨20, _, h.sget (l := 405) (by decide) rfl, hi, rfl⟩
theorem V.mg_holders {g : GT} {w : aW} (h : V g w) {i : Int32} (hi : vp_in i 96) : gI w (g_ad g 406) i (M_holders (G_M g) i.toNatClampNeg) := ⟨96, _, h.sget (l := 406) (by decide) rfl, hi, rfl⟩
theorem V.mg_sorts {g : GT} {w : aW} (h : V g w) {i : Int32} (hi : vp_in i 4) : gI w (g_ad g 407) i (M_sorts (G_M g) i.toNatClampNeg) := ⟨4, _, h.sget (l := 407) (by decide) rfl, hi, rfl⟩
theorem V.mg_msizes {g : GT} {w : aW} (h : V g w) {i : Int32} (hi : vp_in i 4) : gI w (g_ad g 408) i (M_msizes (G_M g) i.toNatClampNeg) := ⟨4, _, h.sget (l := 408) (by decide) rfl, hi, rfl⟩
theorem V.mg_items {g : GT} {w : aW} (h : V g w) {i : Int32} (hi : vp_in i 160) : gL w (g_ad g 409) i (M_items (G_M g) i.toNatClampNeg) := ⟨160, _, h.sget (l := 409) (by decide) rfl, hi, rfl⟩
theorem m_other {g : GT} {m' : MT} {l : Nat} (hz : ∀ z, 400 + z ≠ l → mcell (g_ad g) m' z = mcell (g_ad g) (G_M g) z) : ∀ l', l' ≠ l → scell (G_M_ g m') l' = scell g l' := by
  intro l' hl
  show (if l' < 100 then xcell (g_ad g) (G_X g) l' else if l' < 200 then ccell (g_ad g) 100 (X_kept (G_X g)) (l' - 100) else if l' < 300 then ccell (g_ad g) 200 (X_thought (G_X g)) (l' - 200) else if l' < 400 then (if l' = 300 then some (cInts (G_scr g).1 (G_scr g).2) else none) else mcell (g_ad g) m' (l' - 400)) = scell g l'
  unfold scell
  by_cases h1 : l' < 400
  · by_cases h2 : l' < 100
    · simp only [h2, if_true]
    · by_cases h3 : l' < 200
      · simp only [h2, h3, if_true, if_false]
      · by_cases h4 : l' < 300
        · simp only [h2, h3, h4, if_true, if_false]
        · simp only [h1, h2, h3, h4, if_true, if_false]
  · have e : ∃ z, l' = 400 + z := ⟨l' - 400, by omega⟩
    obtain ⟨z, rfl⟩ := e
    have h2 : ¬ 400 + z < 100 := by omega
    have h3 : ¬ 400 + z < 200 := by omega
    have h4 : ¬ 400 + z < 300 := by omega
    simp only [h1, h2, h3, h4, if_false]
    rw [Nat.add_sub_cancel_left]
    exact hz z hl
theorem V.mp_s {g : GT} {w : aW} (h : V g w) {i x : Int32} {Q : aW → Prop} (hi : vp_in i 554) (k : ∀ w', V (G_M_ g (M_s_ (G_M g) (upd (M_s (G_M g)) i.toNatClampNeg x))) w' → Q w') : pI w (g_ad g 401) i x Q := by
  refine ⟨554, _, h.sget (l := 401) (by decide) rfl, hi, k _ ?_⟩
  refine h.sset 401 (by decide) rfl rfl rfl rfl (m_other (fun z hz => ?_)) rfl
  match z, hz with
  | 0, hz => rfl
  | 1, hz => exact absurd rfl hz
  | 2, hz => rfl
  | 3, hz => rfl
  | 4, hz => rfl
  | 5, hz => rfl
  | 6, hz => rfl
  | 7, hz => rfl
  | 8, hz => rfl
  | 9, hz => rfl
  | _ + 10, _ => rfl
theorem V.mp_image {g : GT} {w : aW} (h : V g w) {i x : Int32} {Q : aW → Prop} (hi : vp_in i 554) (k : ∀ w', V (G_M_ g (M_image_ (G_M g) (upd (M_image (G_M g)) i.toNatClampNeg x))) w' → Q w') : pI w (g_ad g 402) i x Q := by
  refine ⟨554, _, h.sget (l := 402) (by decide) rfl, hi, k _ ?_⟩
  refine h.sset 402 (by decide) rfl rfl rfl rfl (m_other (fun z hz => ?_)) rfl
  match z, hz with
  | 0, hz => rfl
  | 1, hz => rfl
  | 2, hz => exact absurd rfl hz
  | 3, hz => rfl
  | 4, hz => rfl
  | 5, hz => rfl
  | 6, hz => rfl
  | 7, hz => rfl
  | 8, hz => rfl
  | 9, hz => rfl
  | _ + 10, _ => rfl
theorem V.mp_frame {g : GT} {w : aW} (h : V g w) {i x : Int32} {Q : aW → Prop} (hi : vp_in i 554) (k : ∀ w', V (G_M_ g (M_frame_ (G_M g) (upd (M_frame (G_M g)) i.toNatClampNeg x))) w' → Q w') : pI w (g_ad g 403) i x Q := by
  refine ⟨554, _, h.sget (l := 403) (by decide) rfl, hi, k _ ?_⟩
  refine h.sset 403 (by decide) rfl rfl rfl rfl (m_other (fun z hz => ?_)) rfl
  match z, hz with
  | 0, hz => rfl
  | 1, hz => rfl
  | 2, hz => rfl
  | 3, hz => exact absurd rfl hz
  | 4, hz => rfl
  | 5, hz => rfl
  | 6, hz => rfl
  | 7, hz => rfl
  | 8, hz => rfl
  | 9, hz => rfl
  | _ + 10, _ => rfl
theorem V.mp_holds {g : GT} {w : aW} (h : V g w) {i x : Int32} {Q : aW → Prop} (hi : vp_in i 96) (k : ∀ w', V (G_M_ g (M_holds_ (G_M g) (upd (M_holds (G_M g)) i.toNatClampNeg x))) w' → Q w') : pI w (g_ad g 404) i x Q := by
  refine ⟨96, _, h.sget (l := 404) (by decide) rfl, hi, k _ ?_⟩
  refine h.sset 404 (by decide) rfl rfl rfl rfl (m_other (fun z hz => ?_)) rfl
  match z, hz with
  | 0, hz => rfl
  | 1, hz => rfl
  | 2, hz => rfl
  | 3, hz => rfl
  | 4, hz => exact absurd rfl hz
  | 5, hz => rfl
  | 6, hz => rfl
  | 7, hz => rfl
  | 8, hz => rfl
  | 9, hz => rfl
  | _ + 10, _ => rfl
theorem V.mp_newest {g : GT} {w : aW} (h : V g w) {i x : Int32} {Q : aW → Prop} (hi : vp_in i 20) (k : ∀ w', V (G_M_ g (M_newest_ (G_M g) (upd (M_newest (G_M g)) i.toNatClampNeg x))) w' → Q w') : pI w (g_ad g 405) i x Q := by
  refine ⟨20, _, h.sget (l := 405) (by decide) rfl, hi, k _ ?_⟩
  refine h.sset 405 (by decide) rfl rfl rfl rfl (m_other (fun z hz => ?_)) rfl
  match z, hz with
  | 0, hz => rfl
  | 1, hz => rfl
  | 2, hz => rfl
  | 3, hz => rfl
  | 4, hz => rfl
  | 5, hz => exact absurd rfl hz
  | 6, hz => rfl
  | 7, hz => rfl
  | 8, hz => rfl
  | 9, hz => rfl
  | _ + 10, _ => rfl
theorem V.mp_holders {g : GT} {w : aW} (h : V g w) {i x : Int32} {Q : aW → Prop} (hi : vp_in i 96) (k : ∀ w', V (G_M_ g (M_holders_ (G_M g) (upd (M_holders (G_M g)) i.toNatClampNeg x))) w' → Q w') : pI w (g_ad g 406) i x Q := by
  refine ⟨96, _, h.sget (l := 406) (by decide) rfl, hi, k _ ?_⟩
  refine h.sset 406 (by decide) rfl rfl rfl rfl (m_other (fun z hz => ?_)) rfl
  match z, hz with
  | 0, hz => rfl
  | 1, hz => rfl
  | 2, hz => rfl
  | 3, hz => rfl
  | 4, hz => rfl
  | 5, hz => rfl
  | 6, hz => exact absurd rfl hz
  | 7, hz => rfl
  | 8, hz => rfl
  | 9, hz => rfl
  | _ + 10, _ => rfl
theorem V.mp_sorts {g : GT} {w : aW} (h : V g w) {i x : Int32} {Q : aW → Prop} (hi : vp_in i 4) (k : ∀ w', V (G_M_ g (M_sorts_ (G_M g) (upd (M_sorts (G_M g)) i.toNatClampNeg x))) w' → Q w') : pI w (g_ad g 407) i x Q := by
  refine ⟨4, _, h.sget (l := 407) (by decide) rfl, hi, k _ ?_⟩
  refine h.sset 407 (by decide) rfl rfl rfl rfl (m_other (fun z hz => ?_)) rfl
  match z, hz with
  | 0, hz => rfl
  | 1, hz => rfl
  | 2, hz => rfl
  | 3, hz => rfl
  | 4, hz => rfl
  | 5, hz => rfl
  | 6, hz => rfl
  | 7, hz => exact absurd rfl hz
  | 8, hz => rfl
  | 9, hz => rfl
  | _ + 10, _ => rfl
theorem V.mp_msizes {g : GT} {w : aW} (h : V g w) {i x : Int32} {Q : aW → Prop} (hi : vp_in i 4) (k : ∀ w', V (G_M_ g (M_msizes_ (G_M g) (upd (M_msizes (G_M g)) i.toNatClampNeg x))) w' → Q w') : pI w (g_ad g 408) i x Q := by
  refine ⟨4, _, h.sget (l := 408) (by decide) rfl, hi, k _ ?_⟩
  refine h.sset 408 (by decide) rfl rfl rfl rfl (m_other (fun z hz => ?_)) rfl
  match z, hz with
  | 0, hz => rfl
  | 1, hz => rfl
  | 2, hz => rfl
  | 3, hz => rfl
  | 4, hz => rfl
  | 5, hz => rfl
  | 6, hz => rfl
  | 7, hz => rfl
  | 8, hz => exact absurd rfl hz
  | 9, hz => rfl
  | _ + 10, _ => rfl
theorem V.mp_items {g : GT} {w : aW} (h : V g w) {i : Int32} {x : Int64} {Q : aW → Prop} (hi : vp_in i 160) (k : ∀ w', V (G_M_ g (M_items_ (G_M g) (vp_updL (M_items (G_M g)) i.toNatClampNeg x))) w' → Q w') : pL w (g_ad g 409) i x Q := by
  refine ⟨160, _, h.sget (l := 409) (by decide) rfl, hi, k _ ?_⟩
  refine h.sset 409 (by decide) rfl rfl rfl rfl (m_other (fun z hz => ?_)) rfl
  match z, hz with
  | 0, hz => rfl
  | 1, hz => rfl
  | 2, hz => rfl
  | 3, hz => rfl
  | 4, hz => rfl
  | 5, hz => rfl
  | 6, hz => rfl
  | 7, hz => rfl
  | 8, hz => rfl
  | 9, hz => exact absurd rfl hz
  | _ + 10, _ => rfl
theorem V.mpf_hasImage {g : GT} {w : aW} (h : V g w) {x : Int32} {Q : aW → Prop} (k : ∀ w', V (G_M_ g (M_hasImage_ (G_M g) x)) w' → Q w') : pf w (g_m g) [3] 4 (vI x) Q := by
  refine ⟨3, _, h.mo, List.mem_singleton.mpr rfl, (by show 4 < 13; decide), k _ ?_⟩
  refine h.sset 400 (by decide) rfl rfl rfl rfl (m_other (fun z hz => ?_)) rfl
  match z, hz with
  | 0, hz => exact absurd rfl hz
  | 1, hz => rfl
  | 2, hz => rfl
  | 3, hz => rfl
  | 4, hz => rfl
  | 5, hz => rfl
  | 6, hz => rfl
  | 7, hz => rfl
  | 8, hz => rfl
  | 9, hz => rfl
  | _ + 10, _ => rfl
theorem V.mpf_owns {g : GT} {w : aW} (h : V g w) {x : Int32} {Q : aW → Prop} (k : ∀ w', V (G_M_ g (M_owns_ (G_M g) x)) w' → Q w') : pf w (g_m g) [3] 7 (vI x) Q := by
  refine ⟨3, _, h.mo, List.mem_singleton.mpr rfl, (by show 7 < 13; decide), k _ ?_⟩
  refine h.sset 400 (by decide) rfl rfl rfl rfl (m_other (fun z hz => ?_)) rfl
  match z, hz with
  | 0, hz => exact absurd rfl hz
  | 1, hz => rfl
  | 2, hz => rfl
  | 3, hz => rfl
  | 4, hz => rfl
  | 5, hz => rfl
  | 6, hz => rfl
  | 7, hz => rfl
  | 8, hz => rfl
  | 9, hz => rfl
  | _ + 10, _ => rfl
theorem V.mpf_lot {g : GT} {w : aW} (h : V g w) {x : Int32} {Q : aW → Prop} (k : ∀ w', V (G_M_ g (M_lot_ (G_M g) x)) w' → Q w') : pf w (g_m g) [3] 12 (vI x) Q := by
  refine ⟨3, _, h.mo, List.mem_singleton.mpr rfl, (by show 12 < 13; decide), k _ ?_⟩
  refine h.sset 400 (by decide) rfl rfl rfl rfl (m_other (fun z hz => ?_)) rfl
  match z, hz with
  | 0, hz => exact absurd rfl hz
  | 1, hz => rfl
  | 2, hz => rfl
  | 3, hz => rfl
  | 4, hz => rfl
  | 5, hz => rfl
  | 6, hz => rfl
  | 7, hz => rfl
  | 8, hz => rfl
  | 9, hz => rfl
  | _ + 10, _ => rfl
