theorem zz_last0 : True := by
  have := @Jvm.Stand.multianewarray2F
  trivial
