theorem kt_zz : True := trivial
